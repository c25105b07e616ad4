/-! THE MACHINE LAYER: pure heaps, what they say of a heap, a frame that refines a residual computation -/
set_option maxRecDepth 100000
def RX13' : String := "ForestLegs$1"
def TX13 : u_T := fun _ => ("", "", "", false)
abbrev PC : Type := (Nat × vp_A) ⊕ (Nat × List Value)
/-- cells by address (may it be written?), the next address, slots used, addresses of constants -/
abbrev PH : Type := (Nat → Option (Bool × PC)) × Nat × Nat × (Nat → Option Nat)
abbrev xO : Type := Nat ⊕ Option Value
def xcl : List vw_C := [(RX1, TX1, 7), (RX2, TX2, 32), (RX3, TX3, 10), (RX4, TX4, 5), (RX5, TX5, 8), (RX6, TX6, 2), (RX7, TX7, 5), (RX8, TX8, 2), (RX9, TX9, 4), (RX10, TX10, 1), (RX11, TX11, 2), (RX12, TX12, 3), (RX13, TX13, 0), (RJ1, TJ1, 3), (RJ3, TJ3, 3), (RJ5, TJ5, 9), (RJ6, TJ6, 4), (RJ15, TJ15, 4), (RJ19, TJ19, 1), (RJ23, TJ23, 6), (RJ26, TJ26, 4), (RJ28, TJ28, 0), (RJ32, TJ32, 4), (RJ34, TJ34, 1), (RJ35, TJ35, 1), (RJ37, TJ37, 4)]
def xty : List FieldType := [.int, .int, .byte, .long, .object "java/lang/Object", .object "ForestLegs$Match", .array .int, .object "java/lang/Integer"]
/-- launch, the law's start, numbers of classes and slots, of array classes, most cells, most slots, constants -/
abbrev xG : Type := Launch × State × va_G × (Nat → ClassId) × Nat × Nat × (Nat → Option Nat)
def gl (G : xG) : Launch := G.1
def g0 (G : xG) : State := G.2.1
def gD (G : xG) : va_G := G.2.2.1
def gA (G : xG) : Nat → ClassId := G.2.2.2.1
def gC (G : xG) : Nat := G.2.2.2.2.1
def gS (G : xG) : Nat := G.2.2.2.2.2.1
def gX (G : xG) : Nat → Option Nat := G.2.2.2.2.2.2
def gZ (G : xG) : Nat := (g0 G).heap.size
abbrev xCx : Type := Program × Env × Room × State × MethodId × Array Value × List Frame × Method × Code
/-- the sum of all cells' slots -/
def xsl (H : Heap) : Nat := (H.toList.map (fun c => c.slots.size)).sum
/-- bytes are bytes -/
def xbf (x : Nat × vp_A) : Prop := x.1 = 2 → match x.2.2 with
  | .inl f => ∀ j, j < x.2.1 → vp_nar .byte (f j) = f j
  | _ => True
def xat (G : xG) (a : Nat) (c : PC) (H : Heap) : Prop := match c with
  | .inl x => H[a]? = some (vp_cell (gA G x.1) x.2) ∧ xbf x
  | .inr o => ∃ r : vw_C, xcl[o.1]? = some r ∧ o.2.length = r.2.2 ∧ t_OB a ((gD G).1 o.1) r.2.2 ((gD G).2 o.1) H (vp_V o.2)
/-- .. of a cell that was there at the start and is only read -/
def xaf (G : xG) (a : Nat) (c : PC) (H : Heap) : Prop := match c with
  | .inl x => (∃ (cell : Cell) (ty : FieldType), xty[x.1]? = some ty ∧ H[a]? = some cell ∧ (g0 G).isArrayOf cell ty ∧ cell.vm ≠ .unknown ∧ x.2.1 ≤ cell.slots.size ∧ cell.slots.size.toInt32 = Int32.ofNat x.2.1 ∧ ∀ j : Nat, j < x.2.1 → cell.slots[j]? = (vp_cell 0 x.2).slots[j]?) ∧ xbf x
  | .inr o => ∃ r : vw_C, xcl[o.1]? = some r ∧ o.2.length = r.2.2 ∧ ∃ cell : Cell, H[a]? = some cell ∧ cell.cls = (gD G).1 o.1 ∧ (cell.vm ≠ .unknown ∧ cell.vm.isStatics = false) ∧ ∀ k : Nat, k < r.2.2 → cell.slots[(gD G).2 o.1 k]? = some (vp_V o.2 k)
def xaw (G : xG) (a : Nat) (w : Bool) (c : PC) (H : Heap) : Prop := match w with
  | true => xat G a c H
  | false => xaf G a c H
def xr (G : xG) (P : PH) (H : Heap) : Prop := (P.2.1 = H.size ∧ P.2.2.1 = xsl H ∧ P.2.2.2 = gX G) ∧ gZ G ≤ H.size ∧ (∀ q : Nat, q < gZ G → H[q]? = (g0 G).heap[q]?) ∧ ∀ (a : Nat) (w : Bool) (c : PC), P.1 a = some (w, c) → xaw G a w c H ∧ (w = true → gZ G ≤ a)
def xKc (G : xG) (U : State) (ci : Nat) (r : vw_C) : Prop := U.vm.findClass r.1 = some ((gD G).1 ci) ∧ (∀ k, k < r.2.2 → SlotIs U (r.2.1 k).1 (r.2.1 k).2.1 (r.2.1 k).2.2.1 ((gD G).2 ci k)) ∧ (0 < r.2.2 → ClassAt U r.1 ((gD G).1 ci))
def xK (G : xG) (U : State) : Prop := (∀ (ci : Nat) (r : vw_C), xcl[ci]? = some r → xKc G U ci r) ∧ ∀ (t : Nat) (ty : FieldType), xty[t]? = some ty → ArrOfT U (gA G t) ty ∧ (t ≠ 7 → va_RA U (gA G t) ty)
theorem xK.moved {G : xG} {u U : State} (hvm : u.vm.Alike U.vm) (h : xK G u) : xK G U := by
  refine ⟨fun ci r hr => ?_, fun t ty ht => ⟨arrOfT_moved hvm (h.2 t ty ht).1, fun h7 => ((h.2 t ty ht).2 h7).moved hvm⟩⟩
  obtain ⟨h1, h2, h3⟩ := h.1 ci r hr
  exact ⟨by rw [hvm.findClass]; exact h1, fun k hk => slotIs_moved hvm (h2 k hk), fun h0 => classAt_moved hvm (h3 h0)⟩
/-- what is known of the start -/
def xstat : List (String × String × String × (Int32 ⊕ Nat)) := [("ForestLegs", "BY_TIME", "Ljava/util/Comparator;", .inr 0), ("java/lang/Integer$IntegerCache", "cache", "[Ljava/lang/Integer;", .inr 1), ("java/lang/Integer$IntegerCache", "high", "I", .inl 127), ("java/lang/String", "COMPACT_STRINGS", "Z", .inl 1), ("java/util/ArrayList", "EMPTY_ELEMENTDATA", "[Ljava/lang/Object;", .inr 2), ("java/util/ArrayList", "DEFAULTCAPACITY_EMPTY_ELEMENTDATA", "[Ljava/lang/Object;", .inr 3), ("java/util/TreeSet", "PRESENT", "Ljava/lang/Object;", .inr 4), ("java/lang/Throwable", "UNASSIGNED_STACK", "[Ljava/lang/StackTraceElement;", .inr 5), ("java/lang/Throwable", "SUPPRESSED_SENTINEL", "Ljava/util/List;", .inr 6), ("java/util/Arrays$LegacyMergeSort", "userRequested", "Z", .inl 0), ("java/util/TimSort", "$assertionsDisabled", "Z", .inl 1), ("jdk/internal/util/Preconditions", "SIOOBE_FORMATTER", "Ljava/util/function/BiFunction;", .inr 7)]
def xval (G : xG) (v : Int32 ⊕ Nat) : Value := match v with
  | .inl z => .int z
  | .inr k => va_rf (gX G k)
/-- the string constants: class, entry, text, number of the constant -/
def xlits : List (String × Nat × String × Nat) := [("ForestLegsModel", 102, "course", 10), ("ForestLegsModel", 108, "runner", 11), ("ForestLegsModel", 110, "gap", 12), ("ForestLegsModel", 112, "slack", 13), ("ForestLegs$Reader", 64, ";,:", 14), ("ForestLegs$Reader", 94, " course runner gap slack ", 15), ("ForestLegs$Reader", 96, " ", 16), ("ForestLegs$Reader", 209, "course", 17), ("ForestLegs$Reader", 214, "runner", 18), ("ForestLegs$Reader", 216, "gap", 19), ("ForestLegs$Reader", 218, "slack", 20)]
def xOK (G : xG) : Prop := (∃ A : Array Value, ∀ w ∈ lw_tbl, w.before A (g0 G) = true) ∧ xK G (g0 G) ∧ (∀ (j : Nat) (e : String × String × String × (Int32 ⊕ Nat)), xstat[j]? = some e → va_Z e.1 e.2.1 e.2.2.1 (xval G e.2.2.2) (fun q => gZ G ≤ q) (g0 G) (g0 G).heap) ∧ (∀ mi, gX G 8 = some mi → va_Mi "[Ljava/lang/Object;" mi (g0 G)) ∧ (∀ (j : Nat) (e : String × Nat × String × Nat), xlits[j]? = some e → ∃ a, gX G e.2.2.2 = some a ∧ vk_R e.1 e.2.1 e.2.2.1 a (g0 G)) ∧ vx_Zq Bundle.tN "UNASSIGNED_STACK" Bundle.steD (fun q => gZ G ≤ q) (g0 G) (g0 G).heap ∧ vx_Zq Bundle.tN "SUPPRESSED_SENTINEL" Bundle.listD (fun q => gZ G ≤ q) (g0 G) (g0 G).heap ∧ (gl G).stackTraces = false ∧ ∀ a : Nat, gX G 0 = some a → ∃ cell : Cell, (g0 G).heap[a]? = some cell ∧ cell.vm.isStatics = false ∧ cell.cls = (gD G).1 12
def xLe (P P' : PH) : Prop := P.2.1 ≤ P'.2.1 ∧ P.2.2.1 ≤ P'.2.2.1
def xLim (G : xG) (P : PH) : Prop := P.2.1 ≤ gC G ∧ P.2.2.1 ≤ gS G
def xoc (o : xO) (oc : Outcome) : Prop := match o with
  | .inl q => oc = .threw q
  | .inr v => oc = .returned v
def xQ (G : xG) (below : List Frame) (s : State) (o : xO) (P' : PH) : State → Prop := fun t =>
  ∃ oc, t.status = .running ∧ Ended t below oc ∧ xoc o oc ∧ xr G P' t.heap ∧ s.WarmedH t.vm ∧ ∃ L, s.sameButNew ({ t with vm := s.vm } : State) L (gC G - s.heap.size) (gS G - xsl s.heap) ∧ ∀ z ∈ L, gZ G ≤ z.base
def xS (G : xG) (s : State) (H : Heap) (locs : List Loc) : Prop := s.heap.size ≤ H.size ∧ ∀ l ∈ locs, gZ G ≤ l.base
/-- the two methods that catch -/
def xtb (own nm : String) : List (Nat × Nat × Nat × Nat) := if own = "ForestLegs" ∧ nm = "text" then [(28, 44, 47, 60)] else if own = "ForestLegsLaw" ∧ nm = "named" then [(0, 10, 13, 13)] else []
/-- what holds in a frame of a method -/
def xok (G : xG) (C : xCx) (own nm : String) (cc : ByteArray) (nL : Nat) (ret : Option FieldType) (d : Nat) : Prop := match C with
  | (p, e, R, s, m, args, below, meth, c) => p.tables.exec = Jvm.exec ∧ c.code = cc ∧ meth.sig.returnType = ret ∧ c.maxLocals = nL ∧ s.vm.findClass own = some m.cls ∧ meth.locks = false ∧ (g0 G).WarmedH s.vm ∧ d ≤ R.frames ∧ 90 * d ≤ R.locals ∧ gC G ≤ s.heap.size + R.cells ∧ gS G ≤ xsl s.heap + R.slots ∧ xOK G ∧ meth.name = nm ∧ c.exceptionTable.toList.map (fun h => (h.startPc, h.endPc, h.handlerPc, h.catchType)) = xtb own nm
/-- the frame at pc, with these locals and this stack, over the pure heap P, refines K -/
def X (G : xG) (own nm : String) (cc : ByteArray) (nL : Nat) (ret : Option FieldType) (d pc : Nat) (lv : List (Nat × Value)) (st : List Value) (P : PH) (K : Option (xO × PH)) : Prop :=
  ∀ (o : xO) (P' : PH), K = some (o, P') → xLe P P' ∧ (xLim G P' → ∀ (p : Program) (e : Env) (R : Room) (s : State) (m : MethodId) (args : Array Value) (below : List Frame) (meth : Method) (c : Code), xok G (p, e, R, s, m, args, below, meth, c) own nm cc nL ret d → ∀ (H : Heap) (locs : List Loc) (cells slots : Nat) (ls : Array Slot), xr G P H → xS G s H locs → lv_has ls nL lv → W p (gl G) e R s m args below meth c H locs cells slots (xQ G below s o P') (F0 m pc ls st))
theorem xok_hts {G : xG} {p : Program} {e : Env} {R : Room} {s : State} {m : MethodId} {args : Array Value} {below : List Frame} {meth : Method} {c : Code} {own nm cc nL ret d} (h : xok G (p, e, R, s, m, args, below, meth, c) own nm cc nL ret d) : ∀ w ∈ lw_all, w.before args s = true := by
  obtain ⟨-, -, -, -, -, -, hW, -, -, -, -, ⟨⟨A, hA⟩, -⟩, -⟩ := h
  intro w hw
  exact word_at hW (lw_self w hw).2 (hA w (lw_all_tbl hw))
theorem xok_K {G : xG} {p : Program} {e : Env} {R : Room} {s : State} {m : MethodId} {args : Array Value} {below : List Frame} {meth : Method} {c : Code} {own nm cc nL ret d} (h : xok G (p, e, R, s, m, args, below, meth, c) own nm cc nL ret d) : xK G s := by
  obtain ⟨-, -, -, -, -, -, hW, -, -, -, -, ⟨-, hK, -⟩, -⟩ := h
  exact hK.moved hW.alike
/-! heaps' sizes -/
theorem xsl_push (H : Heap) (c : Cell) : xsl (H.push c) = xsl H + c.slots.size := by
  simp [xsl]
theorem xsl_same {H H' : Heap} (h : H'.size = H.size) (hs : ∀ (q : Nat) (c : Cell), H[q]? = some c → ∃ c', H'[q]? = some c' ∧ c'.slots.size = c.slots.size) : xsl H' = xsl H := by
  have e : H'.toList.map (fun c => c.slots.size) = H.toList.map (fun c => c.slots.size) := by
    refine List.ext_getElem? fun q => ?_
    simp only [List.getElem?_map, Array.getElem?_toList]
    cases hq : H[q]? with
    | none =>
      have h1 : H.size ≤ q := by simpa using hq
      have h2 : H'[q]? = none := by simp; omega
      rw [h2]
    | some c =>
      obtain ⟨c', h1, h2⟩ := hs q c hq
      rw [h1]
      simp [h2]
  simp only [xsl, e]
theorem xsl_put {H H' : Heap} {a : Nat} {c c' : Cell} (h : H'.size = H.size) (ha : H[a]? = some c) (ha' : H'[a]? = some c') (hs : c'.slots.size = c.slots.size) (ho : ∀ q : Nat, q ≠ a → H'[q]? = H[q]?) : xsl H' = xsl H := by
  refine xsl_same h fun q x hx => ?_
  by_cases e : q = a
  · subst e
    rw [ha] at hx
    cases hx
    exact ⟨c', ha', hs⟩
  · exact ⟨x, by rw [ho q e]; exact hx, rfl⟩
theorem xsl_split {H0 H : Heap} (hs : ∀ (q : Nat) (c : Cell), H0[q]? = some c → ∃ c', H[q]? = some c' ∧ c'.slots.size = c.slots.size) (hz : H0.size ≤ H.size) : xsl H = xsl H0 + ((H.toList.drop H0.size).map (fun c => c.slots.size)).sum := by
  have e : (H.toList.take H0.size).map (fun c => c.slots.size) = H0.toList.map (fun c => c.slots.size) := by
    refine List.ext_getElem? fun q => ?_
    simp only [List.getElem?_map, List.getElem?_take, Array.getElem?_toList]
    cases hq : H0[q]? with
    | none =>
      have h1 : H0.size ≤ q := by simpa using hq
      rw [if_neg (by omega)]
    | some c =>
      have h1 : q < H0.size := (Array.getElem?_eq_some_iff.mp hq).1
      obtain ⟨c', h2, h3⟩ := hs q c hq
      rw [if_pos h1, h2]
      simp [h3]
  unfold xsl
  rw [← e]
  conv => lhs; rw [← List.take_append_drop H0.size H.toList]
  rw [List.map_append, List.sum_append]
/-! counters may be drawn tight at any point -/
theorem xtight {p : Program} {l : Launch} {e : Env} {R : Room} {s : State} {m : MethodId} {args : Array Value} {below : List Frame} {meth : Method} {c : Code} {H : Heap} {locs : List Loc} {cells slots : Nat} {Q : State → Prop} {g : JFrame}
    (k : W p l e R s m args below meth c H locs (H.size - s.heap.size) (xsl H - xsl s.heap) Q g) : W p l e R s m args below meth c H locs cells slots Q g := by
  intro T hT X
  refine k T hT { X with same := ?_ }
  obtain ⟨q1, q2, q3, q4, q5, q6⟩ := X.same
  have hH : (T.setVm s.vm).heap = H := hT
  have hsz : xsl H = xsl s.heap + ((H.toList.drop s.heap.size).map (fun c => c.slots.size)).sum := by
    refine xsl_split (fun q x hx => ?_) (by rw [← hH]; exact q2)
    obtain ⟨c', h1, -, h3, -⟩ := q6 q x hx
    exact ⟨c', by rw [← hH]; exact h1, h3⟩
  refine ⟨q1, q2, ?_, q4, ?_, q6⟩
  · rw [hH] at q2 ⊢; omega
  · rw [hH, hsz]; omega
theorem W.mono {p : Program} {l : Launch} {e : Env} {R : Room} {s : State} {m : MethodId} {args : Array Value} {below : List Frame} {meth : Method} {c : Code} {H : Heap} {locs : List Loc} {cells slots : Nat} {Q Q' : State → Prop} {g : JFrame} (h : ∀ t, Q t → Q' t)
    (k : W p l e R s m args below meth c H locs cells slots Q g) : W p l e R s m args below meth c H locs cells slots Q' g := by
  intro T hT X
  obtain ⟨t, a, b⟩ := k T hT X
  exact ⟨t, a, h t b⟩
section PURE
variable {G : xG} {own nm : String} {cc : ByteArray} {nL d pc n : Nat} {ret : Option FieldType} {lv : List (Nat × Value)} {st : List Value} {P : PH} {K : Option (xO × PH)}
theorem x_no : X G own nm cc nL ret d pc lv st P none := by
  intro o P' h
  cases h
theorem x_eq {K' : Option (xO × PH)} (h : K = K') (k : X G own nm cc nL ret d pc lv st P K') : X G own nm cc nL ret d pc lv st P K := h ▸ k
theorem x_pure {lv' : List (Nat × Value)} {st' : List Value} 
    (f : ∀ {p : Program} {l : Launch} {e : Env} {R : Room} {s : State} {m : MethodId} {args : Array Value} {below : List Frame} {meth : Method} {c : Code} {H : Heap} {locs : List Loc} {cells slots : Nat} {Q : State → Prop} {ls : Array Slot}, p.tables.exec = Jvm.exec → c.code = cc → (∀ w ∈ lw_all, w.before args s = true) → s.vm.findClass own = some m.cls → lv_has ls nL lv → (∀ ls', lv_has ls' nL lv' → W p l e R s m args below meth c H locs cells slots Q (F0 m n ls' st')) → W p l e R s m args below meth c H locs cells slots Q (F0 m pc ls st))
    (k : X G own nm cc nL ret d n lv' st' P K) : X G own nm cc nL ret d pc lv st P K := by
  intro o P' h
  obtain ⟨h1, h2⟩ := k o P' h
  refine ⟨h1, fun hl p e R s m args below meth c hC H locs cells slots ls hr hS hv => ?_⟩
  exact f hC.1 hC.2.1 (xok_hts hC) hC.2.2.2.2.1 hv fun ls' hv' => h2 hl p e R s m args below meth c hC H locs cells slots ls' hr hS hv'
theorem x_iconst {i : Int} (v : Int32) (hd : decode cc pc = .ok (.iconst i, 1)) (hv : Int32.ofInt i = v) (hn : pc + 1 = n) (k : X G own nm cc nL ret d n lv (.int v :: st) P K) : X G own nm cc nL ret d pc lv st P K := by
  subst hn; exact x_pure (fun hx hb _ _ hl k => lv_iconst hx hb hd hv (k _ hl)) k
theorem x_bipush {i : Int} (v : Int32) (hd : decode cc pc = .ok (.bipush i, 2)) (hv : (Int8.ofInt i).toInt32 = v) (hn : pc + 2 = n) (k : X G own nm cc nL ret d n lv (.int v :: st) P K) : X G own nm cc nL ret d pc lv st P K := by
  subst hn; exact x_pure (fun hx hb _ _ hl k => lv_bipush hx hb hd hv (k _ hl)) k
theorem x_sipush {i : Int} (v : Int32) (hd : decode cc pc = .ok (.sipush i, 3)) (hv : (Int16.ofInt i).toInt32 = v) (hn : pc + 3 = n) (k : X G own nm cc nL ret d n lv (.int v :: st) P K) : X G own nm cc nL ret d pc lv st P K := by
  subst hn; exact x_pure (fun hx hb _ _ hl k => lv_sipush hx hb hd hv (k _ hl)) k
theorem x_ldc {index : Nat} (v : Int32) (hd : decode cc pc = .ok (.ldc index, 2)) (hw : Cond.constant own index v ∈ lw_all) (hn : pc + 2 = n) (k : X G own nm cc nL ret d n lv (.int v :: st) P K) : X G own nm cc nL ret d pc lv st P K := by
  subst hn; exact x_pure (fun hx hb hts ho hl k => W.ldc hx hb ho (hts _ hw) rfl hd (k _ hl)) k
theorem x_ldc2 {index : Nat} (v : Int64) (hd : decode cc pc = .ok (.ldc2_w index, 3)) (hw : Cond.constantLong own index v ∈ lw_all) (hn : pc + 3 = n) (k : X G own nm cc nL ret d n lv (.long v :: st) P K) : X G own nm cc nL ret d pc lv st P K := by
  subst hn; exact x_pure (fun hx hb hts ho hl k => lv_ldc2 hx hb ho (hts _ hw) hd (k _ hl)) k
theorem x_lconst {i : Fin 2} (v : Int64) (hd : decode cc pc = .ok (.lconst i, 1)) (hv : Int64.ofNat (i : Nat) = v) (hn : pc + 1 = n) (k : X G own nm cc nL ret d n lv (.long v :: st) P K) : X G own nm cc nL ret d pc lv st P K := by
  subst hn; exact x_pure (fun hx hb _ _ hl k => lv_lconst hx hb hd hv (k _ hl)) k
theorem x_null (hd : decode cc pc = .ok (.aconst_null, 1)) (hn : pc + 1 = n) (k : X G own nm cc nL ret d n lv (va_rf none :: st) P K) : X G own nm cc nL ret d pc lv st P K := by
  subst hn; exact x_pure (fun hx hb _ _ hl k => lv_null hx hb hd (k _ hl)) k
theorem x_iload_n {i : Fin 4} {j : Nat} {x : Int32} (q : Nat) (hd : decode cc pc = .ok (.iload_n i, 1)) (hi : (i : Nat) = j) (hq : lv[q]? = some (j, .int x)) (hn : pc + 1 = n) (k : X G own nm cc nL ret d n lv (.int x :: st) P K) : X G own nm cc nL ret d pc lv st P K := by
  subst hn; exact x_pure (fun hx hb _ _ hl k => lv_iload_n hx hb hd hi (lv_at hl q hq) (k _ hl)) k
theorem x_iload {j : Nat} {x : Int32} (q : Nat) (hd : decode cc pc = .ok (.iload j, 2)) (hq : lv[q]? = some (j, .int x)) (hn : pc + 2 = n) (k : X G own nm cc nL ret d n lv (.int x :: st) P K) : X G own nm cc nL ret d pc lv st P K := by
  subst hn; exact x_pure (fun hx hb _ _ hl k => lv_iload hx hb hd (lv_at hl q hq) (k _ hl)) k
theorem x_lload_n {i : Fin 4} {j : Nat} {x : Int64} (q : Nat) (hd : decode cc pc = .ok (.lload_n i, 1)) (hi : (i : Nat) = j) (hq : lv[q]? = some (j, .long x)) (hn : pc + 1 = n) (k : X G own nm cc nL ret d n lv (.long x :: st) P K) : X G own nm cc nL ret d pc lv st P K := by
  subst hn; exact x_pure (fun hx hb _ _ hl k => lv_lload_n hx hb hd hi (lv_at hl q hq) (k _ hl)) k
theorem x_aload_n {i : Fin 4} {j : Nat} {x : Option Nat} (q : Nat) (hd : decode cc pc = .ok (.aload_n i, 1)) (hi : (i : Nat) = j) (hq : lv[q]? = some (j, va_rf x)) (hn : pc + 1 = n) (k : X G own nm cc nL ret d n lv (va_rf x :: st) P K) : X G own nm cc nL ret d pc lv st P K := by
  subst hn
  cases x with
  | none => exact x_pure (fun hx hb _ _ hl k => lv_aload_nN hx hb hd hi (lv_at hl q hq) (k _ hl)) k
  | some a => exact x_pure (fun hx hb _ _ hl k => lv_aload_n hx hb hd hi (lv_at hl q hq) (k _ hl)) k
theorem x_aload {j : Nat} {x : Option Nat} (q : Nat) (hd : decode cc pc = .ok (.aload j, 2)) (hq : lv[q]? = some (j, va_rf x)) (hn : pc + 2 = n) (k : X G own nm cc nL ret d n lv (va_rf x :: st) P K) : X G own nm cc nL ret d pc lv st P K := by
  subst hn
  cases x with
  | none => exact x_pure (fun hx hb _ _ hl k => lv_aloadN hx hb hd (lv_at hl q hq) (k _ hl)) k
  | some a => exact x_pure (fun hx hb _ _ hl k => lv_aload hx hb hd (lv_at hl q hq) (k _ hl)) k
theorem x_aload_nr {i : Fin 4} {j : Nat} {x : Nat} (q : Nat) (hd : decode cc pc = .ok (.aload_n i, 1)) (hi : (i : Nat) = j) (hq : lv[q]? = some (j, .ref x)) (hn : pc + 1 = n) (k : X G own nm cc nL ret d n lv (.ref x :: st) P K) : X G own nm cc nL ret d pc lv st P K := x_aload_n (x := some x) q hd hi hq hn k
theorem x_aloadr {j : Nat} {x : Nat} (q : Nat) (hd : decode cc pc = .ok (.aload j, 2)) (hq : lv[q]? = some (j, .ref x)) (hn : pc + 2 = n) (k : X G own nm cc nL ret d n lv (.ref x :: st) P K) : X G own nm cc nL ret d pc lv st P K := x_aload (x := some x) q hd hq hn k
abbrev xst (j : Nat) (v : Value) (lv : List (Nat × Value)) : List (Nat × Value) := (j, v) :: lv.filter (fun q => !(q.1 == j) && !(q.1 + 1 == j && q.2.category == 2))
theorem x_istore_n {i : Fin 4} {j : Nat} {x : Int32} (lv' : List (Nat × Value)) (hd : decode cc pc = .ok (.istore_n i, 1)) (hi : (i : Nat) = j) (hj : j < nL) (hl' : xst j (.int x) lv = lv') (hn : pc + 1 = n) (k : X G own nm cc nL ret d n lv' st P K) : X G own nm cc nL ret d pc lv (.int x :: st) P K := by
  subst hn; exact x_pure (fun hx hb _ _ hl k => lv_istore_n hx hb hd hi hl hj hl' k) k
theorem x_istore {j : Nat} {x : Int32} (lv' : List (Nat × Value)) (hd : decode cc pc = .ok (.istore j, 2)) (hj : j < nL) (hl' : xst j (.int x) lv = lv') (hn : pc + 2 = n) (k : X G own nm cc nL ret d n lv' st P K) : X G own nm cc nL ret d pc lv (.int x :: st) P K := by
  subst hn; exact x_pure (fun hx hb _ _ hl k => lv_istore hx hb hd hl hj hl' k) k
theorem x_astore_n {i : Fin 4} {j : Nat} {x : Option Nat} (lv' : List (Nat × Value)) (hd : decode cc pc = .ok (.astore_n i, 1)) (hi : (i : Nat) = j) (hj : j < nL) (hl' : xst j (va_rf x) lv = lv') (hn : pc + 1 = n) (k : X G own nm cc nL ret d n lv' st P K) : X G own nm cc nL ret d pc lv (va_rf x :: st) P K := by
  subst hn
  cases x with
  | none => exact x_pure (fun hx hb _ _ hl k => lv_astore_nN hx hb hd hi hl hj hl' k) k
  | some a => exact x_pure (fun hx hb _ _ hl k => lv_astore_n hx hb hd hi hl hj hl' k) k
theorem x_astore {j : Nat} {x : Option Nat} (lv' : List (Nat × Value)) (hd : decode cc pc = .ok (.astore j, 2)) (hj : j < nL) (hl' : xst j (va_rf x) lv = lv') (hn : pc + 2 = n) (k : X G own nm cc nL ret d n lv' st P K) : X G own nm cc nL ret d pc lv (va_rf x :: st) P K := by
  subst hn
  cases x with
  | none => exact x_pure (fun hx hb _ _ hl k => lv_astoreN hx hb hd hl hj hl' k) k
  | some a => exact x_pure (fun hx hb _ _ hl k => lv_astore hx hb hd hl hj hl' k) k
theorem x_astore_nr {i : Fin 4} {j : Nat} {x : Nat} (lv' : List (Nat × Value)) (hd : decode cc pc = .ok (.astore_n i, 1)) (hi : (i : Nat) = j) (hj : j < nL) (hl' : xst j (.ref x) lv = lv') (hn : pc + 1 = n) (k : X G own nm cc nL ret d n lv' st P K) : X G own nm cc nL ret d pc lv (.ref x :: st) P K := x_astore_n (x := some x) lv' hd hi hj hl' hn k
theorem x_astorer {j : Nat} {x : Nat} (lv' : List (Nat × Value)) (hd : decode cc pc = .ok (.astore j, 2)) (hj : j < nL) (hl' : xst j (.ref x) lv = lv') (hn : pc + 2 = n) (k : X G own nm cc nL ret d n lv' st P K) : X G own nm cc nL ret d pc lv (.ref x :: st) P K := x_astore (x := some x) lv' hd hj hl' hn k
theorem x_iinc {j : Nat} {i : Int} {x : Int32} (v : Int32) (q : Nat) (lv' : List (Nat × Value)) (hd : decode cc pc = .ok (.iinc j i, 3)) (hq : lv[q]? = some (j, .int x)) (hv : x + Int32.ofInt i = v) (hj : j < nL) (hl' : xst j (.int v) lv = lv') (hn : pc + 3 = n) (k : X G own nm cc nL ret d n lv' st P K) : X G own nm cc nL ret d pc lv st P K := by
  subst hn; exact x_pure (fun hx hb _ _ hl k => lv_iinc hx hb hd hl hq hv hj hl' k) k
theorem x_goto {off : Int} (hd : decode cc pc = .ok (.goto off, 3)) (ht : (pc : Int) + off = (n : Int)) (k : X G own nm cc nL ret d n lv st P K) : X G own nm cc nL ret d pc lv st P K :=
  x_pure (fun hx hb _ _ hl k => lv_goto hx hb hd ht (k _ hl)) k
theorem x_sub (is : List Nat) (lv' : List (Nat × Value)) (hs : lv_pick lv is = lv') (k : X G own nm cc nL ret d pc lv' st P K) : X G own nm cc nL ret d pc lv st P K := by
  intro o P' h
  obtain ⟨h1, h2⟩ := k o P' h
  exact ⟨h1, fun hl p e R s m args below meth c hC H locs cells slots ls hr hS hv => h2 hl p e R s m args below meth c hC H locs cells slots ls hr hS (lv_sub hv is hs)⟩
theorem xcat (x : Option Nat) : (va_rf x).category = 1 := by cases x <;> rfl
theorem x_dup {v : Value} (hd : decode cc pc = .ok (.dup, 1)) (hv : v.category = 1) (hn : pc + 1 = n) (k : X G own nm cc nL ret d n lv (v :: v :: st) P K) : X G own nm cc nL ret d pc lv (v :: st) P K := by
  subst hn; exact x_pure (fun hx hb _ _ hl k => lv_dup hx hb hd hv (k _ hl)) k
theorem x_pop {v : Value} (hd : decode cc pc = .ok (.pop, 1)) (hv : v.category = 1) (hn : pc + 1 = n) (k : X G own nm cc nL ret d n lv st P K) : X G own nm cc nL ret d pc lv (v :: st) P K := by
  subst hn; exact x_pure (fun hx hb _ _ hl k => lv_pop hx hb hd hv (k _ hl)) k
theorem x_dup_x1 {v w : Value} (hd : decode cc pc = .ok (.dup_x1, 1)) (hv : v.category = 1) (hw : w.category = 1) (hn : pc + 1 = n) (k : X G own nm cc nL ret d n lv (v :: w :: v :: st) P K) : X G own nm cc nL ret d pc lv (v :: w :: st) P K := by
  subst hn; exact x_pure (fun hx hb _ _ hl k => lv_dup_x1 hx hb hd hv hw (k _ hl)) k
theorem x_dup2 {v w : Value} (hd : decode cc pc = .ok (.dup2, 1)) (hv : v.category = 1) (hw : w.category = 1) (hn : pc + 1 = n) (k : X G own nm cc nL ret d n lv (v :: w :: v :: w :: st) P K) : X G own nm cc nL ret d pc lv (v :: w :: st) P K := by
  subst hn; exact x_pure (fun hx hb _ _ hl k => lv_dup2_11 hx hb hd hv hw (k _ hl)) k
end PURE
section PURE2
variable {G : xG} {own nm : String} {cc : ByteArray} {nL d pc n : Nat} {ret : Option FieldType} {lv : List (Nat × Value)} {st : List Value} {P : PH} {K K1 K2 : Option (xO × PH)}
theorem x_iadd {x y : Int32} (hd : decode cc pc = .ok (.iadd, 1)) (hn : pc + 1 = n) (k : X G own nm cc nL ret d n lv (.int (x + y) :: st) P K) : X G own nm cc nL ret d pc lv (.int y :: .int x :: st) P K := by
  subst hn; exact x_pure (fun hx hb _ _ hl k => lv_iadd hx hb hd (k _ hl)) k
theorem x_isub {x y : Int32} (hd : decode cc pc = .ok (.isub, 1)) (hn : pc + 1 = n) (k : X G own nm cc nL ret d n lv (.int (x - y) :: st) P K) : X G own nm cc nL ret d pc lv (.int y :: .int x :: st) P K := by
  subst hn; exact x_pure (fun hx hb _ _ hl k => lv_isub hx hb hd (k _ hl)) k
theorem x_imul {x y : Int32} (hd : decode cc pc = .ok (.imul, 1)) (hn : pc + 1 = n) (k : X G own nm cc nL ret d n lv (.int (x * y) :: st) P K) : X G own nm cc nL ret d pc lv (.int y :: .int x :: st) P K := by
  subst hn; exact x_pure (fun hx hb _ _ hl k => lv_imul hx hb hd (k _ hl)) k
theorem x_iand {x y : Int32} (hd : decode cc pc = .ok (.iand, 1)) (hn : pc + 1 = n) (k : X G own nm cc nL ret d n lv (.int (x &&& y) :: st) P K) : X G own nm cc nL ret d pc lv (.int y :: .int x :: st) P K := by
  subst hn; exact x_pure (fun hx hb _ _ hl k => lv_iand hx hb hd (k _ hl)) k
theorem x_ior {x y : Int32} (hd : decode cc pc = .ok (.ior, 1)) (hn : pc + 1 = n) (k : X G own nm cc nL ret d n lv (.int (x ||| y) :: st) P K) : X G own nm cc nL ret d pc lv (.int y :: .int x :: st) P K := by
  subst hn; exact x_pure (fun hx hb _ _ hl k => lv_ior hx hb hd (k _ hl)) k
theorem x_ixor {x y : Int32} (hd : decode cc pc = .ok (.ixor, 1)) (hn : pc + 1 = n) (k : X G own nm cc nL ret d n lv (.int (x ^^^ y) :: st) P K) : X G own nm cc nL ret d pc lv (.int y :: .int x :: st) P K := by
  subst hn; exact x_pure (fun hx hb _ _ hl k => lv_ixor hx hb hd (k _ hl)) k
theorem x_ishl {x y : Int32} (hd : decode cc pc = .ok (.ishl, 1)) (hn : pc + 1 = n) (k : X G own nm cc nL ret d n lv (.int (x <<< (y &&& 31)) :: st) P K) : X G own nm cc nL ret d pc lv (.int y :: .int x :: st) P K := by
  subst hn; exact x_pure (fun hx hb _ _ hl k => lv_ishl hx hb hd (k _ hl)) k
theorem x_ishr {x y : Int32} (hd : decode cc pc = .ok (.ishr, 1)) (hn : pc + 1 = n) (k : X G own nm cc nL ret d n lv (.int (x >>> (y &&& 31)) :: st) P K) : X G own nm cc nL ret d pc lv (.int y :: .int x :: st) P K := by
  subst hn; exact x_pure (fun hx hb _ _ hl k => lv_ishr hx hb hd (k _ hl)) k
theorem x_ineg {x : Int32} (hd : decode cc pc = .ok (.ineg, 1)) (hn : pc + 1 = n) (k : X G own nm cc nL ret d n lv (.int (-x) :: st) P K) : X G own nm cc nL ret d pc lv (.int x :: st) P K := by
  subst hn; exact x_pure (fun hx hb _ _ hl k => lv_ineg hx hb hd (k _ hl)) k
theorem x_ladd {x y : Int64} (hd : decode cc pc = .ok (.ladd, 1)) (hn : pc + 1 = n) (k : X G own nm cc nL ret d n lv (.long (x + y) :: st) P K) : X G own nm cc nL ret d pc lv (.long y :: .long x :: st) P K := by
  subst hn; exact x_pure (fun hx hb _ _ hl k => lv_ladd hx hb hd (k _ hl)) k
theorem x_lsub {x y : Int64} (hd : decode cc pc = .ok (.lsub, 1)) (hn : pc + 1 = n) (k : X G own nm cc nL ret d n lv (.long (x - y) :: st) P K) : X G own nm cc nL ret d pc lv (.long y :: .long x :: st) P K := by
  subst hn; exact x_pure (fun hx hb _ _ hl k => lv_lsub hx hb hd (k _ hl)) k
theorem x_lmul {x y : Int64} (hd : decode cc pc = .ok (.lmul, 1)) (hn : pc + 1 = n) (k : X G own nm cc nL ret d n lv (.long (x * y) :: st) P K) : X G own nm cc nL ret d pc lv (.long y :: .long x :: st) P K := by
  subst hn; exact x_pure (fun hx hb _ _ hl k => lv_lmul hx hb hd (k _ hl)) k
theorem x_br {c : Prop} [Decidable c] {st1 st2 : List Value} {t n : Nat} 
    (f : ∀ {p : Program} {l : Launch} {e : Env} {R : Room} {s : State} {m : MethodId} {args : Array Value} {below : List Frame} {meth : Method} {c0 : Code} {H : Heap} {locs : List Loc} {cells slots : Nat} {Q : State → Prop} {ls : Array Slot}, p.tables.exec = Jvm.exec → c0.code = cc → (c → W p l e R s m args below meth c0 H locs cells slots Q (F0 m t ls st1)) → (¬ c → W p l e R s m args below meth c0 H locs cells slots Q (F0 m n ls st2)) → W p l e R s m args below meth c0 H locs cells slots Q (F0 m pc ls st))
    (kt : c → X G own nm cc nL ret d t lv st1 P K1) (kf : ¬ c → X G own nm cc nL ret d n lv st2 P K2) : X G own nm cc nL ret d pc lv st P (if c then K1 else K2) := by
  intro o P' h
  by_cases hc : c
  · rw [if_pos hc] at h
    refine ⟨(kt hc o P' h).1, fun hl p e R s m args below meth c0 hC H locs cells slots ls hr hS hv => ?_⟩
    exact f hC.1 hC.2.1 (fun hc => (kt hc o P' h).2 hl p e R s m args below meth c0 hC H locs cells slots ls hr hS hv) (fun hn => absurd hc hn)
  · rw [if_neg hc] at h
    refine ⟨(kf hc o P' h).1, fun hl p e R s m args below meth c0 hC H locs cells slots ls hr hS hv => ?_⟩
    exact f hC.1 hC.2.1 (fun hn => absurd hn hc) (fun hc => (kf hc o P' h).2 hl p e R s m args below meth c0 hC H locs cells slots ls hr hS hv)
theorem x_icmp_eq {x y : Int32} {off : Int} {t : Nat} (hd : decode cc pc = .ok (.if_icmp .eq off, 3)) (ht : (pc : Int) + off = (t : Int)) (hn : pc + 3 = n) (kt : x = y → X G own nm cc nL ret d t lv st P K1) (kf : ¬ (x = y) → X G own nm cc nL ret d n lv st P K2) : X G own nm cc nL ret d pc lv (.int y :: .int x :: st) P (if x = y then K1 else K2) := by
  subst hn; exact x_br (fun hx hb a b => lv_icmp_eq hx hb hd ht a b) kt kf
theorem x_if_eq {x : Int32} {off : Int} {t : Nat} (hd : decode cc pc = .ok (.ifCond .eq off, 3)) (ht : (pc : Int) + off = (t : Int)) (hn : pc + 3 = n) (kt : x = 0 → X G own nm cc nL ret d t lv st P K1) (kf : ¬ (x = 0) → X G own nm cc nL ret d n lv st P K2) : X G own nm cc nL ret d pc lv (.int x :: st) P (if x = 0 then K1 else K2) := by
  subst hn; exact x_br (fun hx hb a b => lv_if_eq hx hb hd ht a b) kt kf
theorem x_icmp_ne {x y : Int32} {off : Int} {t : Nat} (hd : decode cc pc = .ok (.if_icmp .ne off, 3)) (ht : (pc : Int) + off = (t : Int)) (hn : pc + 3 = n) (kt : ¬ x = y → X G own nm cc nL ret d t lv st P K1) (kf : x = y → X G own nm cc nL ret d n lv st P K2) : X G own nm cc nL ret d pc lv (.int y :: .int x :: st) P (if x = y then K2 else K1) := by
  subst hn; exact x_br (fun hx hb a b => lv_icmp_ne hx hb hd ht b a) kf kt
theorem x_if_ne {x : Int32} {off : Int} {t : Nat} (hd : decode cc pc = .ok (.ifCond .ne off, 3)) (ht : (pc : Int) + off = (t : Int)) (hn : pc + 3 = n) (kt : ¬ x = 0 → X G own nm cc nL ret d t lv st P K1) (kf : x = 0 → X G own nm cc nL ret d n lv st P K2) : X G own nm cc nL ret d pc lv (.int x :: st) P (if x = 0 then K2 else K1) := by
  subst hn; exact x_br (fun hx hb a b => lv_if_ne hx hb hd ht b a) kf kt
theorem x_icmp_lt {x y : Int32} {off : Int} {t : Nat} (hd : decode cc pc = .ok (.if_icmp .lt off, 3)) (ht : (pc : Int) + off = (t : Int)) (hn : pc + 3 = n) (kt : x < y → X G own nm cc nL ret d t lv st P K1) (kf : ¬ (x < y) → X G own nm cc nL ret d n lv st P K2) : X G own nm cc nL ret d pc lv (.int y :: .int x :: st) P (if x < y then K1 else K2) := by
  subst hn; exact x_br (fun hx hb a b => lv_icmp_lt hx hb hd ht a b) kt kf
theorem x_if_lt {x : Int32} {off : Int} {t : Nat} (hd : decode cc pc = .ok (.ifCond .lt off, 3)) (ht : (pc : Int) + off = (t : Int)) (hn : pc + 3 = n) (kt : x < 0 → X G own nm cc nL ret d t lv st P K1) (kf : ¬ (x < 0) → X G own nm cc nL ret d n lv st P K2) : X G own nm cc nL ret d pc lv (.int x :: st) P (if x < 0 then K1 else K2) := by
  subst hn; exact x_br (fun hx hb a b => lv_if_lt hx hb hd ht a b) kt kf
theorem x_icmp_ge {x y : Int32} {off : Int} {t : Nat} (hd : decode cc pc = .ok (.if_icmp .ge off, 3)) (ht : (pc : Int) + off = (t : Int)) (hn : pc + 3 = n) (kt : y ≤ x → X G own nm cc nL ret d t lv st P K1) (kf : ¬ (y ≤ x) → X G own nm cc nL ret d n lv st P K2) : X G own nm cc nL ret d pc lv (.int y :: .int x :: st) P (if y ≤ x then K1 else K2) := by
  subst hn; exact x_br (fun hx hb a b => lv_icmp_ge hx hb hd ht a b) kt kf
theorem x_if_ge {x : Int32} {off : Int} {t : Nat} (hd : decode cc pc = .ok (.ifCond .ge off, 3)) (ht : (pc : Int) + off = (t : Int)) (hn : pc + 3 = n) (kt : 0 ≤ x → X G own nm cc nL ret d t lv st P K1) (kf : ¬ (0 ≤ x) → X G own nm cc nL ret d n lv st P K2) : X G own nm cc nL ret d pc lv (.int x :: st) P (if 0 ≤ x then K1 else K2) := by
  subst hn; exact x_br (fun hx hb a b => lv_if_ge hx hb hd ht a b) kt kf
theorem x_icmp_gt {x y : Int32} {off : Int} {t : Nat} (hd : decode cc pc = .ok (.if_icmp .gt off, 3)) (ht : (pc : Int) + off = (t : Int)) (hn : pc + 3 = n) (kt : y < x → X G own nm cc nL ret d t lv st P K1) (kf : ¬ (y < x) → X G own nm cc nL ret d n lv st P K2) : X G own nm cc nL ret d pc lv (.int y :: .int x :: st) P (if y < x then K1 else K2) := by
  subst hn; exact x_br (fun hx hb a b => lv_icmp_gt hx hb hd ht a b) kt kf
theorem x_if_gt {x : Int32} {off : Int} {t : Nat} (hd : decode cc pc = .ok (.ifCond .gt off, 3)) (ht : (pc : Int) + off = (t : Int)) (hn : pc + 3 = n) (kt : 0 < x → X G own nm cc nL ret d t lv st P K1) (kf : ¬ (0 < x) → X G own nm cc nL ret d n lv st P K2) : X G own nm cc nL ret d pc lv (.int x :: st) P (if 0 < x then K1 else K2) := by
  subst hn; exact x_br (fun hx hb a b => lv_if_gt hx hb hd ht a b) kt kf
theorem x_icmp_le {x y : Int32} {off : Int} {t : Nat} (hd : decode cc pc = .ok (.if_icmp .le off, 3)) (ht : (pc : Int) + off = (t : Int)) (hn : pc + 3 = n) (kt : x ≤ y → X G own nm cc nL ret d t lv st P K1) (kf : ¬ (x ≤ y) → X G own nm cc nL ret d n lv st P K2) : X G own nm cc nL ret d pc lv (.int y :: .int x :: st) P (if x ≤ y then K1 else K2) := by
  subst hn; exact x_br (fun hx hb a b => lv_icmp_le hx hb hd ht a b) kt kf
theorem x_if_le {x : Int32} {off : Int} {t : Nat} (hd : decode cc pc = .ok (.ifCond .le off, 3)) (ht : (pc : Int) + off = (t : Int)) (hn : pc + 3 = n) (kt : x ≤ 0 → X G own nm cc nL ret d t lv st P K1) (kf : ¬ (x ≤ 0) → X G own nm cc nL ret d n lv st P K2) : X G own nm cc nL ret d pc lv (.int x :: st) P (if x ≤ 0 then K1 else K2) := by
  subst hn; exact x_br (fun hx hb a b => lv_if_le hx hb hd ht a b) kt kf
theorem x_acmp_eq {x y : Option Nat} {off : Int} {t : Nat} (hd : decode cc pc = .ok (.if_acmp .eq off, 3)) (ht : (pc : Int) + off = (t : Int)) (hn : pc + 3 = n) (kt : x = y → X G own nm cc nL ret d t lv st P K1) (kf : ¬ (x = y) → X G own nm cc nL ret d n lv st P K2) : X G own nm cc nL ret d pc lv (va_rf y :: va_rf x :: st) P (if x = y then K1 else K2) := by
  subst hn; exact x_br (fun hx hb a b => lv_acmp_eq hx hb hd ht a b) kt kf
theorem x_acmp_ne {x y : Option Nat} {off : Int} {t : Nat} (hd : decode cc pc = .ok (.if_acmp .ne off, 3)) (ht : (pc : Int) + off = (t : Int)) (hn : pc + 3 = n) (kt : ¬ x = y → X G own nm cc nL ret d t lv st P K1) (kf : x = y → X G own nm cc nL ret d n lv st P K2) : X G own nm cc nL ret d pc lv (va_rf y :: va_rf x :: st) P (if x = y then K2 else K1) := by
  subst hn; exact x_br (fun hx hb a b => lv_acmp_ne hx hb hd ht b a) kf kt
end PURE2
/-! writing and making -/
def xup (P : PH) (a : Nat) (c : PC) : PH := (fun b => if b = a then some (true, c) else P.1 b, P.2)
def xpush (P : PH) (c : PC) (n : Nat) : PH := (fun b => if b = P.2.1 then some (true, c) else P.1 b, P.2.1 + 1, P.2.2.1 + n, P.2.2.2)
theorem xat.size {G : xG} {a : Nat} {c : PC} {H : Heap} (h : xat G a c H) : ∃ cell, H[a]? = some cell ∧ cell.vm = .none := by
  cases c with
  | inl x => exact ⟨_, h.1, by obtain ⟨t, n, x⟩ := x; rcases x with x | x | x | x | x <;> rfl⟩
  | inr o =>
    obtain ⟨r, -, -, cell, h1, -, h3, -⟩ := h
    exact ⟨cell, h1, h3⟩
theorem xat.kept {G : xG} {a : Nat} {c : PC} {H H1 : Heap} (h : xat G a c H) (he : H1[a]? = H[a]?) : xat G a c H1 := by
  cases c with
  | inl x => exact ⟨he.trans h.1, h.2⟩
  | inr o =>
    obtain ⟨r, h1, h2, h3⟩ := h
    exact ⟨r, h1, h2, h3.kept he⟩
theorem xaw.size {G : xG} {a : Nat} {w : Bool} {c : PC} {H : Heap} (h : xaw G a w c H) : ∃ cell, H[a]? = some cell := by
  cases w with
  | true => exact (xat.size h).imp fun _ h => h.1
  | false =>
    cases c with
    | inl x => obtain ⟨⟨cell, ty, -, h1, -⟩, -⟩ := h; exact ⟨cell, h1⟩
    | inr o => obtain ⟨r, -, -, cell, h1, -⟩ := h; exact ⟨cell, h1⟩
theorem xaw.kept {G : xG} {a : Nat} {w : Bool} {c : PC} {H H1 : Heap} (h : xaw G a w c H) (he : H1[a]? = H[a]?) : xaw G a w c H1 := by
  cases w with
  | true => exact xat.kept h he
  | false =>
    cases c with
    | inl x => obtain ⟨⟨cell, ty, h0, h1, h2⟩, h3⟩ := h; exact ⟨⟨cell, ty, h0, he.trans h1, h2⟩, h3⟩
    | inr o => obtain ⟨r, h0, h9, cell, h1, h2⟩ := h; exact ⟨r, h0, h9, cell, he.trans h1, h2⟩
theorem xr_put {G : xG} {P : PH} {H H1 : Heap} {a : Nat} {c0 c1 : PC} (h : xr G P H) (ha : P.1 a = some (true, c0)) (hz : H1.size = H.size) (hs : xsl H1 = xsl H) (ho : ∀ q : Nat, q ≠ a → H1[q]? = H[q]?) (hx : xat G a c1 H1) : xr G (xup P a c1) H1 := by
  obtain ⟨⟨h1, h2, h3⟩, h4, h5, h6⟩ := h
  have hZ := (h6 a true c0 ha).2 rfl
  refine ⟨⟨h1.trans hz.symm, h2.trans hs.symm, h3⟩, by omega, fun q hq => ?_, fun b w c hb => ?_⟩
  · rw [ho q (by omega)]; exact h5 q hq
  · by_cases e : b = a
    · subst e
      simp only [xup, if_pos] at hb
      cases hb
      exact ⟨hx, fun _ => hZ⟩
    · simp only [xup, if_neg e] at hb
      obtain ⟨q1, q2⟩ := h6 b w c hb
      exact ⟨q1.kept (ho b e), q2⟩
theorem push_lt {H : Heap} {c : Cell} {q : Nat} (h : q < H.size) : (H.push c)[q]? = H[q]? := by
  rw [Array.getElem?_push, if_neg (by omega)]
theorem xr_push {G : xG} {P : PH} {H : Heap} {cell : Cell} {c : PC} {n : Nat} (h : xr G P H) (hn : cell.slots.size = n) (hx : xat G P.2.1 c (H.push cell)) : xr G (xpush P c n) (H.push cell) := by
  obtain ⟨⟨h1, h2, h3⟩, h4, h5, h6⟩ := h
  refine ⟨⟨by show P.2.1 + 1 = _; rw [h1]; simp, by show P.2.2.1 + n = _; rw [xsl_push, h2, hn], h3⟩, by simp; omega, fun q hq => ?_, fun b w d hb => ?_⟩
  · rw [push_lt (by omega)]; exact h5 q hq
  · by_cases e : b = P.2.1
    · subst e
      simp only [xpush, if_pos] at hb
      cases hb
      exact ⟨hx, fun _ => by omega⟩
    · simp only [xpush, if_neg e] at hb
      obtain ⟨q1, q2⟩ := h6 b w d hb
      obtain ⟨ce, q3⟩ := q1.size
      have q4 : b < H.size := (Array.getElem?_eq_some_iff.mp q3).1
      exact ⟨q1.kept (push_lt q4), q2⟩
theorem xS.put {G : xG} {s : State} {H H1 : Heap} {locs : List Loc} {a k : Nat} (h : xS G s H locs) (hz : H1.size = H.size) (ha : gZ G ≤ a) : xS G s H1 (locs ++ [⟨a, k⟩]) := by
  refine ⟨by rw [hz]; exact h.1, fun q hq => ?_⟩
  rcases List.mem_append.mp hq with h1 | h1
  · exact h.2 q h1
  · rw [List.mem_singleton.mp h1]; exact ha
theorem xS.push {G : xG} {s : State} {H : Heap} {c : Cell} {locs : List Loc} (h : xS G s H locs) : xS G s (H.push c) locs := ⟨by have := h.1; simp; omega, h.2⟩
/-! residual computations -/
def xnul {α : Type} (x : Option Nat) (K1 : α) (K2 : Nat → α) : α := match x with
  | none => K1
  | some a => K2 a
def bnd {α β : Type} (x : α) (K : α → β) : β := K x
def xgI {α : Type} (P : PH) (a ci k : Nat) (K : Int32 → Option α) : Option α := match P.1 a with
  | some (_, .inr (c, fs)) => if c = ci then (match fs[k]? with
    | some (.int x) => K x
    | _ => none) else none
  | _ => none
def xgR {α : Type} (P : PH) (a ci k : Nat) (K : Option Nat → Option α) : Option α := match P.1 a with
  | some (_, .inr (c, fs)) => if c = ci then (match fs[k]? with
    | some (.ref b) => K (some b)
    | some .null => K none
    | _ => none) else none
  | _ => none
def xpF {α : Type} (P : PH) (a ci k : Nat) (v : Value) (K : PH → Option α) : Option α := match P.1 a with
  | some (true, .inr (c, fs)) => if c = ci ∧ k < fs.length then K (xup P a (.inr (c, fs.set k v))) else none
  | _ => none
def xaI {α : Type} (P : PH) (a t : Nat) (i : Int32) (K : Int32 → Option α) : Option α := match P.1 a with
  | some (_, .inl (u, n, .inl f)) => if u = t ∧ ¬ (i < 0 ∨ n ≤ i.toNatClampNeg) then K (f i.toNatClampNeg) else none
  | _ => none
def xaL {α : Type} (P : PH) (a t : Nat) (i : Int32) (K : Int64 → Option α) : Option α := match P.1 a with
  | some (_, .inl (u, n, .inr (.inl f))) => if u = t ∧ ¬ (i < 0 ∨ n ≤ i.toNatClampNeg) then K (f i.toNatClampNeg) else none
  | _ => none
def xaR {α : Type} (P : PH) (a t : Nat) (i : Int32) (K : Option Nat → Option α) : Option α := match P.1 a with
  | some (_, .inl (u, n, .inr (.inr (.inr (.inr f))))) => if u = t ∧ ¬ (i < 0 ∨ n ≤ i.toNatClampNeg) then K (f i.toNatClampNeg) else none
  | _ => none
def xsI {α : Type} (P : PH) (a t : Nat) (i x : Int32) (K : PH → Option α) : Option α := match P.1 a with
  | some (true, .inl (u, n, .inl f)) => if u = t ∧ ¬ (i < 0 ∨ n ≤ i.toNatClampNeg) then K (xup P a (.inl (u, n, .inl (upd f i.toNatClampNeg x)))) else none
  | _ => none
def xsL {α : Type} (P : PH) (a t : Nat) (i : Int32) (x : Int64) (K : PH → Option α) : Option α := match P.1 a with
  | some (true, .inl (u, n, .inr (.inl f))) => if u = t ∧ ¬ (i < 0 ∨ n ≤ i.toNatClampNeg) then K (xup P a (.inl (u, n, .inr (.inl (vp_updL f i.toNatClampNeg x))))) else none
  | _ => none
def updR (f : Nat → Option Nat) (k : Nat) (x : Option Nat) : Nat → Option Nat := fun j => if j = k then x else f j
/-- may an object of class ci stand in an array of kind t? -/
def xmay (t ci : Nat) : Bool := (t == 4 && (ci == 3 || ci == 5 || ci == 6 || ci == 7 || ci == 10 || ci == 11 || ci == 14 || ci == 18)) || (t == 5 && ci == 8)
def xmayq (P : PH) (t : Nat) (x : Option Nat) : Bool := match x with
  | none => true
  | some b => match P.1 b with
    | some (_, .inr (c, _)) => xmay t c
    | _ => false
def xsR {α : Type} (P : PH) (a t : Nat) (i : Int32) (x : Option Nat) (K : PH → Option α) : Option α := match P.1 a with
  | some (true, .inl (u, n, .inr (.inr (.inr (.inr f))))) => if u = t ∧ ¬ (i < 0 ∨ n ≤ i.toNatClampNeg) ∧ xmayq P t x = true then K (xup P a (.inl (u, n, .inr (.inr (.inr (.inr (updR f i.toNatClampNeg x))))))) else none
  | _ => none
def xlen {α : Type} (P : PH) (a : Nat) (K : Int32 → Option α) : Option α := match P.1 a with
  | some (_, .inl (u, n, _)) => if u < 8 then K (Int32.ofNat n) else none
  | _ => none
def xnew {α : Type} (P : PH) (ci : Nat) (fs : List Value) (K : Nat → PH → Option α) : Option α := K P.2.1 (xpush P (.inr (ci, fs)) fs.length)
def xnaI {α : Type} (P : PH) (t : Nat) (n : Int32) (K : Nat → PH → Option α) : Option α := if ¬ n < 0 ∧ n.toNatClampNeg ≤ 1000000 then K P.2.1 (xpush P (.inl (t, n.toNatClampNeg, .inl (fun _ => 0))) n.toNatClampNeg) else none
def xnaL {α : Type} (P : PH) (t : Nat) (n : Int32) (K : Nat → PH → Option α) : Option α := if ¬ n < 0 ∧ n.toNatClampNeg ≤ 1000000 then K P.2.1 (xpush P (.inl (t, n.toNatClampNeg, .inr (.inl (fun _ => 0)))) n.toNatClampNeg) else none
def xnaR {α : Type} (P : PH) (t : Nat) (n : Int32) (K : Nat → PH → Option α) : Option α := if ¬ n < 0 ∧ n.toNatClampNeg ≤ 1000000 then K P.2.1 (xpush P (.inl (t, n.toNatClampNeg, .inr (.inr (.inr (.inr (fun _ => none)))))) n.toNatClampNeg) else none
/-- the number of the class of the object there (the constant comparator has no cell of its own) -/
def xco (P : PH) (a : Nat) : Option Nat := match P.1 a with
  | some (_, .inr (c, _)) => some c
  | _ => if P.2.2.2 0 = some a then some 12 else none
/-- the object is of this class -/
def xcl1 {α : Type} (P : PH) (a ci : Nat) (K : Option α) : Option α := if xco P a = some ci then K else none
/-- the object's class is one of these, or null -/
def xcst {α : Type} (P : PH) (x : Option Nat) (cs : List Nat) (K : Option α) : Option α := match x with
  | none => K
  | some a => match P.1 a with
    | some (_, .inr (c, _)) => if cs.contains c = true then K else none
    | _ => none
/-- by class -/
def xsw {α : Type} (P : PH) (a : Nat) (K : Nat → Option α) : Option α := match xco P a with
  | some c => K c
  | none => none
section HEAP
variable {G : xG} {own nm : String} {cc : ByteArray} {nL d pc n : Nat} {ret : Option FieldType} {lv : List (Nat × Value)} {st : List Value} {P : PH} {K K1 K2 : Option (xO × PH)}
theorem x_idiv {x y : Int32} (hd : decode cc pc = .ok (.idiv, 1)) (hn : pc + 1 = n) (k : ¬ y = 0 → X G own nm cc nL ret d n lv (.int (x / y) :: st) P K) : X G own nm cc nL ret d pc lv (.int y :: .int x :: st) P (if y = 0 then none else K) := by
  subst hn
  by_cases h : y = 0
  · rw [if_pos h]; exact x_no
  · rw [if_neg h]; exact x_pure (fun hx hb _ _ hl k => lv_idiv hx hb hd h (k _ hl)) (k h)
theorem x_irem {x y : Int32} (hd : decode cc pc = .ok (.irem, 1)) (hn : pc + 1 = n) (k : ¬ y = 0 → X G own nm cc nL ret d n lv (.int (x - x / y * y) :: st) P K) : X G own nm cc nL ret d pc lv (.int y :: .int x :: st) P (if y = 0 then none else K) := by
  subst hn
  by_cases h : y = 0
  · rw [if_pos h]; exact x_no
  · rw [if_neg h]; exact x_pure (fun hx hb _ _ hl k => lv_irem hx hb hd h (k _ hl)) (k h)
theorem x_ldiv {x y : Int64} (hd : decode cc pc = .ok (.ldiv, 1)) (hn : pc + 1 = n) (k : ¬ y = 0 → X G own nm cc nL ret d n lv (.long (x / y) :: st) P K) : X G own nm cc nL ret d pc lv (.long y :: .long x :: st) P (if y = 0 then none else K) := by
  subst hn
  by_cases h : y = 0
  · rw [if_pos h]; exact x_no
  · rw [if_neg h]; exact x_pure (fun hx hb _ _ hl k => lv_ldiv hx hb hd h (k _ hl)) (k h)
theorem x_iushr {x y : Int32} (hd : decode cc pc = .ok (.iushr, 1)) (hn : pc + 1 = n) (k : X G own nm cc nL ret d n lv (.int ((x.toUInt32 >>> (y.toUInt32 &&& Int32.toUInt32 31)).toInt32) :: st) P K) : X G own nm cc nL ret d pc lv (.int y :: .int x :: st) P K := by
  subst hn; exact x_pure (fun hx hb _ _ hl k => lv_iushr hx hb hd rfl (k _ hl)) k
theorem x_i2l {x : Int32} (hd : decode cc pc = .ok (.i2l, 1)) (hn : pc + 1 = n) (k : X G own nm cc nL ret d n lv (.long x.toInt64 :: st) P K) : X G own nm cc nL ret d pc lv (.int x :: st) P K := by
  subst hn; exact x_pure (fun hx hb _ _ hl k => lv_i2l hx hb hd rfl (k _ hl)) k
theorem x_l2i {x : Int64} (hd : decode cc pc = .ok (.l2i, 1)) (hn : pc + 1 = n) (k : X G own nm cc nL ret d n lv (.int x.toInt32 :: st) P K) : X G own nm cc nL ret d pc lv (.long x :: st) P K := by
  subst hn; exact x_pure (fun hx hb _ _ hl k => lv_l2i hx hb hd rfl (k _ hl)) k
theorem x_i2b {x : Int32} (hd : decode cc pc = .ok (.i2b, 1)) (hn : pc + 1 = n) (k : X G own nm cc nL ret d n lv (.int x.toInt8.toInt32 :: st) P K) : X G own nm cc nL ret d pc lv (.int x :: st) P K := by
  subst hn; exact x_pure (fun hx hb _ _ hl k => lv_i2b hx hb hd rfl (k _ hl)) k
theorem x_i2c {x : Int32} (hd : decode cc pc = .ok (.i2c, 1)) (hn : pc + 1 = n) (k : X G own nm cc nL ret d n lv (.int (x.toUInt32 % 65536).toInt32 :: st) P K) : X G own nm cc nL ret d pc lv (.int x :: st) P K := by
  subst hn; exact x_pure (fun hx hb _ _ hl k => lv_i2c hx hb hd rfl (k _ hl)) k
theorem x_lcmp {x y : Int64} (hd : decode cc pc = .ok (.lcmp, 1)) (hn : pc + 1 = n) (k : X G own nm cc nL ret d n lv (.int (lg_cmp x y) :: st) P K) : X G own nm cc nL ret d pc lv (.long y :: .long x :: st) P K := by
  subst hn; exact x_pure (fun hx hb _ _ hl k => W.lcmp hx hb hd (k _ hl)) k
theorem x_ifnull {x : Option Nat} {K2 : Nat → Option (xO × PH)} {off : Int} {t : Nat} (hd : decode cc pc = .ok (.ifnull off, 3)) (ht : (pc : Int) + off = (t : Int)) (hn : pc + 3 = n) (kt : x = none → X G own nm cc nL ret d t lv st P K1) (kf : ∀ a, x = some a → X G own nm cc nL ret d n lv st P (K2 a)) : X G own nm cc nL ret d pc lv (va_rf x :: st) P (xnul x K1 K2) := by
  subst hn
  cases x with
  | none => exact x_pure (fun hx hb _ _ hl k => lv_ifnullN hx hb hd ht (k _ hl)) (kt rfl)
  | some a => exact x_pure (fun hx hb _ _ hl k => lv_ifnull hx hb hd (k _ hl)) (kf a rfl)
theorem x_ifnonnull {x : Option Nat} {K2 : Nat → Option (xO × PH)} {off : Int} {t : Nat} (hd : decode cc pc = .ok (.ifnonnull off, 3)) (ht : (pc : Int) + off = (t : Int)) (hn : pc + 3 = n) (kf : x = none → X G own nm cc nL ret d n lv st P K1) (kt : ∀ a, x = some a → X G own nm cc nL ret d t lv st P (K2 a)) : X G own nm cc nL ret d pc lv (va_rf x :: st) P (xnul x K1 K2) := by
  subst hn
  cases x with
  | none => exact x_pure (fun hx hb _ _ hl k => lv_ifnonnullN hx hb hd (k _ hl)) (kf rfl)
  | some a => exact x_pure (fun hx hb _ _ hl k => lv_ifnonnull hx hb hd ht (k _ hl)) (kt a rfl)
theorem x_sm {x : Option Nat} {K2 : Nat → Option (xO × PH)} (k : ∀ a, x = some a → X G own nm cc nL ret d pc lv st P (K2 a)) : X G own nm cc nL ret d pc lv st P (xnul x none K2) := by
  cases x with
  | none => exact x_no
  | some a => exact k a rfl
theorem x_bnd {α : Type} {x : α} {K2 : α → Option (xO × PH)} (k : ∀ y, x = y → X G own nm cc nL ret d pc lv st P (K2 y)) : X G own nm cc nL ret d pc lv st P (bnd x K2) := k x rfl
theorem x_ite {c : Prop} [Decidable c] (kt : c → X G own nm cc nL ret d pc lv st P K1) (kf : ¬ c → X G own nm cc nL ret d pc lv st P K2) : X G own nm cc nL ret d pc lv st P (if c then K1 else K2) := by
  by_cases h : c
  · rw [if_pos h]; exact kt h
  · rw [if_neg h]; exact kf h
end HEAP
/-! rows for the heap -/
theorem push_eq {H H1 : Heap} {c : Cell} (z : H1.size = H.size + 1) (e : H1[H.size]? = some c) (o : ∀ q : Nat, q < H.size → H1[q]? = H[q]?) : H1 = H.push c := by
  refine Array.ext_getElem? fun q => ?_
  rcases Nat.lt_trichotomy q H.size with h | h | h
  · rw [o q h, push_lt h]
  · subst h; rw [e]; simp
  · rw [Array.getElem?_eq_none (by omega), Array.getElem?_eq_none (by simp; omega)]
/-- class number ci: name, fields, how many, their types -/
def xCls (ci : Nat) (C : String) (T : u_T) (N : Nat) (ty : Nat → FieldType) : Prop := xcl[ci]? = some (C, T, N) ∧ (∀ w ∈ u_ws C T N, w ∈ lw_all) ∧ (∀ k, k < N → parseFieldDescriptor (T k).2.2.1 = some (ty k)) ∧ (∀ a, a < N → ∀ b, b < N → a ≠ b → (T a).2.1 ≠ (T b).2.1)
/-- the pool entry index of own's is field k of class ci -/
def xFL (own : String) (index ci k : Nat) : Prop := ∃ (C : String) (T : u_T) (N : Nat) (ty : Nat → FieldType) (ref : String), xCls ci C T N ty ∧ k < N ∧ (Cond.fieldLink own index ref (T k).2.1 (T k).2.2.1 ∈ lw_all ∨ ∃ host, Cond.fieldLinkNest own index ref (T k).2.1 (T k).2.2.1 host ∈ lw_tbl) ∧ (ref = (T k).1 ∨ Cond.sameField ref (T k).1 (T k).2.1 (T k).2.2.1 ∈ lw_all)
theorem xFL.same {args : Array Value} {s : State} {T : u_T} {k : Nat} {ref : String} (hts : ∀ w ∈ lw_all, w.before args s = true) (h : ref = (T k).1 ∨ Cond.sameField ref (T k).1 (T k).2.1 (T k).2.2.1 ∈ lw_all) : ∀ x, s.fieldFound? (T k).1 (T k).2.1 (T k).2.2.1 = some x → s.fieldFound? ref (T k).2.1 (T k).2.2.1 = some x := by
  intro x hx
  rcases h with rfl | h
  · exact hx
  · exact u_same (hts _ h) x hx
theorem xobj {G : xG} {P : PH} {H : Heap} {s : State} {a ci : Nat} {fs : List Value} {C : String} {T : u_T} {N : Nat} {ty : Nat → FieldType} (hr : xr G P H) (hK : xK G s) (hc : xCls ci C T N ty) (ha : P.1 a = some (true, .inr (ci, fs))) : fs.length = N ∧ t_OB a ((gD G).1 ci) N ((gD G).2 ci) H (vp_V fs) ∧ xKc G s ci (C, T, N) := by
  obtain ⟨r, h1, h2, h3⟩ := (show xat G a (.inr (ci, fs)) H from (hr.2.2.2 a true _ ha).1)
  have hr : r = (C, T, N) := Option.some.inj (h1.symm.trans hc.1)
  subst hr
  exact ⟨h2, h3, hK.1 ci _ hc.1⟩
theorem xobjF {G : xG} {P : PH} {H : Heap} {a ci : Nat} {w : Bool} {fs : List Value} {r : vw_C} (hr : xr G P H) (hc : xcl[ci]? = some r) (ha : P.1 a = some (w, .inr (ci, fs))) : fs.length = r.2.2 ∧ ∃ cell : Cell, H[a]? = some cell ∧ cell.cls = (gD G).1 ci ∧ (cell.vm ≠ .unknown ∧ cell.vm.isStatics = false) ∧ ∀ k : Nat, k < r.2.2 → cell.slots[(gD G).2 ci k]? = some (vp_V fs k) := by
  have h := (hr.2.2.2 a w _ ha).1
  cases w with
  | true =>
    obtain ⟨r', h1, h2, cell, q1, q2, q3, q4⟩ := (show xat G a (.inr (ci, fs)) H from h)
    have e : r' = r := Option.some.inj (h1.symm.trans hc)
    subst e
    exact ⟨h2, cell, q1, q2, ⟨(by rw [q3]; exact fun h => nomatch h), (by rw [q3]; rfl)⟩, q4⟩
  | false =>
    obtain ⟨r', h1, h2, h3⟩ := (show xaf G a (.inr (ci, fs)) H from h)
    have e : r' = r := Option.some.inj (h1.symm.trans hc)
    subst e
    exact ⟨h2, h3⟩
theorem xnest {G : xG} {own ref nm ds host : String} {index : Nat} {s : State} {args : Array Value} (hO : xOK G) (hW : (g0 G).WarmedH s.vm) (hw : Cond.fieldLinkNest own index ref nm ds host ∈ lw_tbl) : (Cond.fieldLinkNest own index ref nm ds host).before args s = true := by
  obtain ⟨⟨A, hA⟩, -⟩ := hO
  exact va_Nw.use rfl (va_Nw.warmF hW (va_Nw.of rfl (hA _ hw)))
section HEAP3
variable {G : xG} {own nm : String} {cc : ByteArray} {nL d pc n : Nat} {ret : Option FieldType} {lv : List (Nat × Value)} {st : List Value} {P : PH} {K K1 K2 : Option (xO × PH)}
theorem x_heap {P1 : PH} {lv' : List (Nat × Value)} {st' : List Value} (hle : xLe P P1)
    (f : ∀ {p : Program} {e : Env} {R : Room} {s : State} {m : MethodId} {args : Array Value} {below : List Frame} {meth : Method} {c : Code}, xok G (p, e, R, s, m, args, below, meth, c) own nm cc nL ret d → ∀ {H : Heap} {locs : List Loc} {cells slots : Nat} {Q : State → Prop} {ls : Array Slot}, xr G P H → xS G s H locs → lv_has ls nL lv → xLim G P1 →
      (∀ (H1 : Heap) (locs1 : List Loc) (cells1 slots1 : Nat) (ls' : Array Slot), xr G P1 H1 → xS G s H1 locs1 → lv_has ls' nL lv' → W p (gl G) e R s m args below meth c H1 locs1 cells1 slots1 Q (F0 m n ls' st')) → W p (gl G) e R s m args below meth c H locs cells slots Q (F0 m pc ls st))
    (k : X G own nm cc nL ret d n lv' st' P1 K) : X G own nm cc nL ret d pc lv st P K := by
  intro o P' h
  obtain ⟨h1, h2⟩ := k o P' h
  refine ⟨⟨Nat.le_trans hle.1 h1.1, Nat.le_trans hle.2 h1.2⟩, fun hl p e R s m args below meth c hC H locs cells slots ls hr hS hv => ?_⟩
  exact f hC hr hS hv ⟨Nat.le_trans h1.1 hl.1, Nat.le_trans h1.2 hl.2⟩ fun H1 locs1 cells1 slots1 ls' hr' hS' hv' => h2 hl p e R s m args below meth c hC H1 locs1 cells1 slots1 ls' hr' hS' hv'
theorem xLe.rf {P : PH} : xLe P P := ⟨Nat.le_refl _, Nat.le_refl _⟩
theorem x_get {a ci k index : Nat} {w : Bool} {fs : List Value} {v : Value} (hF : xFL own index ci k) (hd : decode cc pc = .ok (.getfield index, 3)) (hn : pc + 3 = n) (ha : P.1 a = some (w, .inr (ci, fs))) (hv : fs[k]? = some v) (kk : X G own nm cc nL ret d n lv (v :: st) P K) : X G own nm cc nL ret d pc lv (.ref a :: st) P K := by
  subst hn
  obtain ⟨Cn, T, N, ty, ref, hc, hk, hlink, hsame⟩ := hF
  refine x_heap xLe.rf (fun {p e R s m args below meth c} hC {H locs cells slots Q ls} hr hS hl hlim g => ?_) kk
  have hts := xok_hts hC
  obtain ⟨hlen, cell, q1, q2, ⟨q3, -⟩, q4⟩ := xobjF hr hc.1 ha
  obtain ⟨hfc, hS', hCA⟩ := (xok_K hC).1 ci _ hc.1
  obtain ⟨-, kC, hkC, hkind⟩ := hCA (by show 0 < N; omega)
  obtain ⟨cf, kf, fi, f, hi, hsl⟩ := hS' k hk
  have hv' : cell.slots[f.slot]? = some v := by
    rw [hsl, q4 k hk]
    simp [vp_V, hv]
  have hst := (u_facts hfc hkC (u_lays hts hc.2.1 hk) hi).1
  have g2 := g H locs cells slots ls hr hS hl
  rcases hlink with hlink | ⟨host, hlink⟩
  · exact W.getf hC.1 hC.2.1 hC.2.2.2.2.1 (hts _ hlink) (xFL.same hts hsame _ hi) hst q1 q3 hv' rfl rfl hd g2
  · exact va_Wgetf hC.1 hC.2.1 hC.2.2.2.2.1 (xnest hC.2.2.2.2.2.2.2.2.2.2.2.1 hC.2.2.2.2.2.2.1 hlink) (xFL.same hts hsame _ hi) hst q1 q3 hv' rfl rfl hd g2
theorem x_getI {a ci k index : Nat} {K2 : Int32 → Option (xO × PH)} (hF : xFL own index ci k) (hd : decode cc pc = .ok (.getfield index, 3)) (hn : pc + 3 = n) (kk : ∀ x, X G own nm cc nL ret d n lv (.int x :: st) P (K2 x)) : X G own nm cc nL ret d pc lv (.ref a :: st) P (xgI P a ci k K2) := by
  unfold xgI
  split
  · rename_i w c fs ha
    split
    · rename_i e
      subst e
      split
      · rename_i x hx
        exact x_get hF hd hn ha hx (kk x)
      · exact x_no
    · exact x_no
  · exact x_no
theorem x_getR {a ci k index : Nat} {K2 : Option Nat → Option (xO × PH)} (hF : xFL own index ci k) (hd : decode cc pc = .ok (.getfield index, 3)) (hn : pc + 3 = n) (kk : ∀ x, X G own nm cc nL ret d n lv (va_rf x :: st) P (K2 x)) : X G own nm cc nL ret d pc lv (.ref a :: st) P (xgR P a ci k K2) := by
  unfold xgR
  split
  · rename_i w c fs ha
    split
    · rename_i e
      subst e
      split
      · rename_i x hx
        exact x_get hF hd hn ha hx (kk (some x))
      · rename_i hx
        exact x_get hF hd hn ha hx (kk none)
      · exact x_no
    · exact x_no
  · exact x_no
theorem xap {args : Array Value} {s : State} {ci : Nat} {C : String} {T : u_T} {N : Nat} {ty : Nat → FieldType} (hts : ∀ w ∈ lw_all, w.before args s = true) (hc : xCls ci C T N ty) (hS : ∀ k, k < N → SlotIs s (T k).1 (T k).2.1 (T k).2.2.1 ((gD G).2 ci k)) : ∀ x y, x < N → y < N → x ≠ y → ((gD G).2 ci) x ≠ ((gD G).2 ci) y := by
  intro x y hx hy hne
  obtain ⟨_, _, _, fa, hia, ea⟩ := hS x hx
  obtain ⟨_, _, _, fb, hib, eb⟩ := hS y hy
  rw [← ea, ← eb]
  refine u_apart (u_lays hts hc.2.1 hx) (u_lays hts hc.2.1 hy) hia hib ?_
  rw [(State.fieldFound?_type hia (hc.2.2.1 x hx)).1, (State.fieldFound?_type hib (hc.2.2.1 y hy)).1]
  exact hc.2.2.2 x hx y hy hne
/-- a value that a field of this type keeps -/
def xfit (ty : FieldType) (v : Value) : Prop := narrow ty v = v ∧ fits ty v = true
/-- the field k of class ci takes v here: it isn't final, or this is its own class's constructor -/
def xPL (own : String) (index ci k : Nat) (nm : String) (v : Value) : Prop := ∃ (C : String) (T : u_T) (N : Nat) (ty : Nat → FieldType) (ref : String), xCls ci C T N ty ∧ k < N ∧ (Cond.fieldLink own index ref (T k).2.1 (T k).2.2.1 ∈ lw_all ∨ ((T k).2.2.2 = false ∧ ∃ host, Cond.fieldLinkNest own index ref (T k).2.1 (T k).2.2.1 host ∈ lw_tbl)) ∧ (ref = (T k).1 ∨ Cond.sameField ref (T k).1 (T k).2.1 (T k).2.2.1 ∈ lw_all) ∧ ((T k).2.2.2 = false ∨ ((T k).2.2.2 = true ∧ nm = "<init>" ∧ (T k).1 = own)) ∧ xfit (ty k) v
theorem x_put {a ci k index : Nat} {fs : List Value} {v : Value} (hF : xPL own index ci k nm v) (hd : decode cc pc = .ok (.putfield index, 3)) (hn : pc + 3 = n) (ha : P.1 a = some (true, .inr (ci, fs))) (kk : X G own nm cc nL ret d n lv st (xup P a (.inr (ci, fs.set k v))) K) : X G own nm cc nL ret d pc lv (v :: .ref a :: st) P K := by
  subst hn
  obtain ⟨Cn, T, N, ty, ref, hc, hk, hlink, hsame, hfin, hnar, hfit⟩ := hF
  refine x_heap (P1 := xup P a (.inr (ci, fs.set k v))) ⟨Nat.le_refl _, Nat.le_refl _⟩ (fun {p e R s m args below meth c} hC {H locs cells slots Q ls} hr hS hl hlim g => ?_) kk
  have hts := xok_hts hC
  obtain ⟨hlen, ⟨cell, q1, q2, q3, q4⟩, hfc, hS', hCA⟩ := xobj hr (xok_K hC) hc ha
  obtain ⟨-, kC, hkC, hkind⟩ := hCA (by show 0 < N; omega)
  have hap := xap hts hc hS'
  obtain ⟨cf, kf, fi, f, hi, hsl⟩ := hS' k hk
  have hst := (u_facts hfc hkC (u_lays hts hc.2.1 hk) hi).1
  have hslot : f.slot < cell.slots.size := by rw [hsl]; exact k2_hasslot (q4 k hk)
  have hlay := hts _ (hc.2.1 _ (u_in_lay hk))
  unfold u_lay at hlay
  have hZ := (hr.2.2.2 a true _ ha).2 rfl
  have fin : ∀ H' : Heap, H'[a]? = some (cell.setSlot f.slot v) → H'.size = H.size → (∀ q, q ≠ a → H'[q]? = H[q]?) → W p (gl G) e R s m args below meth c H' (locs ++ [⟨a, f.slot⟩]) cells slots Q (F0 m (pc + 3) ls st) := by
    intro H' e1 e2 e3
    refine g H' _ cells slots ls (xr_put hr ha e2 (xsl_put e2 q1 e1 (by simp [Cell.setSlot]) e3) e3 ⟨_, hc.1, by simp [hlen], ?_⟩) (hS.put e2 hZ) hl
    refine t_OB.to (V := updV (vp_V fs) k v) ⟨_, e1, q2, q3, ?_⟩ (fun j _ => vp_updV_set (by rw [hlen]; exact hk) v j)
    rw [hsl]
    exact t_set q4 hap hk v
  rcases hfin with hfin | ⟨hfin, hnm, hdecl⟩
  · rw [if_neg (by rw [hfin]; decide)] at hlay
    have h6 := u_store hfc hkC hkind hlay hi (hc.2.2.1 k hk) hnar hfit
    rcases hlink with hlink | ⟨-, host, hlink⟩
    · exact W.putK hC.1 hC.2.1 (f := f) ⟨hC.2.2.2.2.1, hts _ hlink, ⟨_, _, _, xFL.same hts hsame _ hi⟩, hst⟩ (by rw [q2]; exact h6) q1 q3 hslot rfl rfl hd fin
    · exact va_WputK hC.1 hC.2.1 (f := f) hC.2.2.2.2.1 (xnest hC.2.2.2.2.2.2.2.2.2.2.2.1 hC.2.2.2.2.2.2.1 hlink) (xFL.same hts hsame _ hi) hst (by rw [q2]; exact h6) q1 q3 hslot rfl rfl hd fin
  · rcases hlink with hlink | ⟨hno, -⟩
    · rw [if_pos hfin] at hlay
      have hcf : m.cls = cf := by
        obtain ⟨_, _, c', _, _, _, -, -, hf', -, -, -, hown2, -⟩ := Cond.laysFinal_spec hlay
        have e1 : c' = cf := by have := hi.symm.trans hf'; simp at this; exact this.1.symm
        rw [hdecl] at hown2
        rw [← e1]; exact Option.some.inj (hC.2.2.2.2.1.symm.trans hown2)
      have h6 := u_fits hfc hkC hkind (Or.inr hlay) hi (hc.2.2.1 k hk) hnar hfit
      exact W.putFinK hC.1 hC.2.1 hC.2.2.2.2.1 (hts _ hlink) (xFL.same hts hsame _ hi) hst hcf (by rw [hC.2.2.2.2.2.2.2.2.2.2.2.2.1]; exact hnm) (by rw [q2]; exact h6) q1 q3 hslot rfl rfl hd fin
    · rw [hno] at hfin; cases hfin
theorem x_pF {a ci k index : Nat} {v : Value} {K2 : PH → Option (xO × PH)} (hF : xPL own index ci k nm v) (hd : decode cc pc = .ok (.putfield index, 3)) (hn : pc + 3 = n) (kk : ∀ P1, X G own nm cc nL ret d n lv st P1 (K2 P1)) : X G own nm cc nL ret d pc lv (v :: .ref a :: st) P (xpF P a ci k v K2) := by
  unfold xpF
  split
  · rename_i c fs ha
    split
    · rename_i e
      obtain ⟨rfl, e⟩ := e
      exact x_put hF hd hn ha (kk _)
    · exact x_no
  · exact x_no
end HEAP3
section HEAP4
variable {G : xG} {own nm : String} {cc : ByteArray} {nL d pc n : Nat} {ret : Option FieldType} {lv : List (Nat × Value)} {st : List Value} {P : PH} {K K1 K2 : Option (xO × PH)}
theorem xarr {G : xG} {P : PH} {H : Heap} {s : State} {a t : Nat} {x : vp_A} {ty : FieldType} (hr : xr G P H) (hK : xK G s) (ht : xty[t]? = some ty) (ha : P.1 a = some (true, .inl (t, x))) : H[a]? = some (vp_cell (gA G t) x) ∧ ArrOfT s (gA G t) ty := ⟨(show xat G a (.inl (t, x)) H from (hr.2.2.2 a true _ ha).1).1, (hK.2 t ty ht).1⟩
theorem xarrF {G : xG} {P : PH} {H : Heap} {s : State} {a t : Nat} {w : Bool} {x : vp_A} {ty : FieldType} (hr : xr G P H) (hK : xK G s) (hW : (g0 G).WarmedH s.vm) (ht : xty[t]? = some ty) (ha : P.1 a = some (w, .inl (t, x))) : ∃ cell : Cell, H[a]? = some cell ∧ s.isArrayOf cell ty ∧ cell.vm ≠ .unknown ∧ x.1 ≤ cell.slots.size ∧ cell.slots.size.toInt32 = Int32.ofNat x.1 ∧ ∀ j : Nat, j < x.1 → cell.slots[j]? = (vp_cell 0 x).slots[j]? := by
  have h := (hr.2.2.2 a w _ ha).1
  cases w with
  | true =>
    obtain ⟨h1, -⟩ := (show xat G a (.inl (t, x)) H from h)
    have h2 := (hK.2 t ty ht).1
    refine ⟨_, h1, ?_⟩
    obtain ⟨n, f⟩ := x
    have hsz : (vp_cell (gA G t) (n, f)).slots.size = n := by rcases f with f | f | f | f | f <;> exact arrV_size _ _ _
    have hof : s.isArrayOf (vp_cell (gA G t) (n, f)) ty := by rcases f with f | f | f | f | f <;> exact h2 n _
    refine ⟨hof, (by rcases f with f | f | f | f | f <;> exact fun h => nomatch h), Nat.le_of_eq hsz.symm, (by show Nat.toInt32 _ = _; rw [hsz]), fun j hj => ?_⟩
    rcases f with f | f | f | f | f <;> rfl
  | false =>
    obtain ⟨⟨cell, ty', h0, h1, h2, h3⟩, -⟩ := (show xaf G a (.inl (t, x)) H from h)
    have e : ty' = ty := Option.some.inj (h0.symm.trans ht)
    subst e
    exact ⟨cell, h1, State.isArrayOf_alike hW.alike h2, h3⟩
theorem xset_i {cA : ClassId} {n j : Nat} {f : Nat → Int32} {x : Int32} : (vp_cell cA (n, .inl f)).setSlot j (.int x) = vp_cell cA (n, .inl (upd f j x)) := by
  rw [vp_cell_i, vp_cell_i, arrV_store]
  congr 1
  funext q
  by_cases hq : q = j
  · subst hq; simp [updV, upd]
  · simp [updV, upd, hq]
theorem xset_l {cA : ClassId} {n j : Nat} {f : Nat → Int64} {x : Int64} : (vp_cell cA (n, .inr (.inl f))).setSlot j (.long x) = vp_cell cA (n, .inr (.inl (vp_updL f j x))) := by
  rw [vp_cell_l, vp_cell_l, arrV_store]
  congr 1
  funext q
  by_cases hq : q = j
  · subst hq; simp [updV, vp_updL]
  · simp [updV, vp_updL, hq]
theorem xset_q {cA : ClassId} {n j : Nat} {f : Nat → Option Nat} {x : Option Nat} : (vp_cell cA (n, .inr (.inr (.inr (.inr f))))).setSlot j (va_rf x) = vp_cell cA (n, .inr (.inr (.inr (.inr (updR f j x))))) := by
  rw [vp_cell_q, vp_cell_q, arrV_store]
  congr 1
  funext q
  by_cases hq : q = j
  · subst hq; simp [updV, updR]
  · simp [updV, updR, hq]
theorem x_iald {a t : Nat} {i : Int32} {K2 : Int32 → Option (xO × PH)} (ht : xty[t]? = some .int) (hd : decode cc pc = .ok (.iaload, 1)) (hn : pc + 1 = n) (kk : ∀ x, X G own nm cc nL ret d n lv (.int x :: st) P (K2 x)) : X G own nm cc nL ret d pc lv (.int i :: .ref a :: st) P (xaI P a t i K2) := by
  subst hn
  unfold xaI
  split
  · rename_i w u N f ha
    split
    · rename_i hin
      obtain ⟨rfl, hin⟩ := hin
      refine x_heap xLe.rf (fun {p e R s m args below meth c} hC {H locs cells slots Q ls} hr hS hl hlim g => ?_) (kk (f i.toNatClampNeg))
      obtain ⟨cell, h1, h2, h3, h4, -, h5⟩ := xarrF hr (xok_K hC) hC.2.2.2.2.2.2.1 ht ha
      have hlt : i.toNatClampNeg < N := Nat.not_le.mp fun q => hin (Or.inr q)
      exact W.iald hC.1 hC.2.1 h1 h2 h3 (fun q => q.elim (fun q => hin (Or.inl q)) (fun q => absurd (Nat.lt_of_lt_of_le hlt h4) (Nat.not_lt.mpr q))) (by rw [h5 _ hlt]; show (arrV _ _ _).slots[_]? = _; rw [arrV_read _ _ hlt]) rfl rfl hd (g H locs cells slots ls hr hS hl)
    · exact x_no
  · exact x_no
theorem x_bald {a t : Nat} {i : Int32} {K2 : Int32 → Option (xO × PH)} (ht : xty[t]? = some .byte) (hd : decode cc pc = .ok (.baload, 1)) (hn : pc + 1 = n) (kk : ∀ x, X G own nm cc nL ret d n lv (.int x :: st) P (K2 x)) : X G own nm cc nL ret d pc lv (.int i :: .ref a :: st) P (xaI P a t i K2) := by
  subst hn
  unfold xaI
  split
  · rename_i w u N f ha
    split
    · rename_i hin
      obtain ⟨rfl, hin⟩ := hin
      refine x_heap xLe.rf (fun {p e R s m args below meth c} hC {H locs cells slots Q ls} hr hS hl hlim g => ?_) (kk (f i.toNatClampNeg))
      obtain ⟨cell, h1, h2, h3, h4, -, h5⟩ := xarrF hr (xok_K hC) hC.2.2.2.2.2.2.1 ht ha
      have hlt : i.toNatClampNeg < N := Nat.not_le.mp fun q => hin (Or.inr q)
      exact W.bald hC.1 hC.2.1 h1 h2 h3 (fun q => q.elim (fun q => hin (Or.inl q)) (fun q => absurd (Nat.lt_of_lt_of_le hlt h4) (Nat.not_lt.mpr q))) (by rw [h5 _ hlt]; show (arrV _ _ _).slots[_]? = _; rw [arrV_read _ _ hlt]) rfl rfl hd (g H locs cells slots ls hr hS hl)
    · exact x_no
  · exact x_no
theorem x_lald {a t : Nat} {i : Int32} {K2 : Int64 → Option (xO × PH)} (ht : xty[t]? = some .long) (hd : decode cc pc = .ok (.laload, 1)) (hn : pc + 1 = n) (kk : ∀ x, X G own nm cc nL ret d n lv (.long x :: st) P (K2 x)) : X G own nm cc nL ret d pc lv (.int i :: .ref a :: st) P (xaL P a t i K2) := by
  subst hn
  unfold xaL
  split
  · rename_i w u N f ha
    split
    · rename_i hin
      obtain ⟨rfl, hin⟩ := hin
      refine x_heap xLe.rf (fun {p e R s m args below meth c} hC {H locs cells slots Q ls} hr hS hl hlim g => ?_) (kk (f i.toNatClampNeg))
      obtain ⟨cell, h1, h2, h3, h4, -, h5⟩ := xarrF hr (xok_K hC) hC.2.2.2.2.2.2.1 ht ha
      have hlt : i.toNatClampNeg < N := Nat.not_le.mp fun q => hin (Or.inr q)
      exact W.lald hC.1 hC.2.1 h1 h2 h3 (fun q => q.elim (fun q => hin (Or.inl q)) (fun q => absurd (Nat.lt_of_lt_of_le hlt h4) (Nat.not_lt.mpr q))) (by rw [h5 _ hlt]; show (arrV _ _ _).slots[_]? = _; rw [arrV_read _ _ hlt]) rfl rfl hd (g H locs cells slots ls hr hS hl)
    · exact x_no
  · exact x_no
theorem x_aald {a t : Nat} {i : Int32} {ty : FieldType} {K2 : Option Nat → Option (xO × PH)} (ht : xty[t]? = some ty) (hty : ty.isReference = true) (hd : decode cc pc = .ok (.aaload, 1)) (hn : pc + 1 = n) (kk : ∀ x, X G own nm cc nL ret d n lv (va_rf x :: st) P (K2 x)) : X G own nm cc nL ret d pc lv (.int i :: .ref a :: st) P (xaR P a t i K2) := by
  subst hn
  unfold xaR
  split
  · rename_i w u N f ha
    split
    · rename_i hin
      obtain ⟨rfl, hin⟩ := hin
      refine x_heap xLe.rf (fun {p e R s m args below meth c} hC {H locs cells slots Q ls} hr hS hl hlim g => ?_) (kk (f i.toNatClampNeg))
      obtain ⟨cell, h1, h2, h3, h4, -, h5⟩ := xarrF hr (xok_K hC) hC.2.2.2.2.2.2.1 ht ha
      have hlt : i.toNatClampNeg < N := Nat.not_le.mp fun q => hin (Or.inr q)
      exact W.aald hC.1 hC.2.1 h1 h2 hty h3 (fun q => q.elim (fun q => hin (Or.inl q)) (fun q => absurd (Nat.lt_of_lt_of_le hlt h4) (Nat.not_lt.mpr q))) (by rw [h5 _ hlt]; show (arrV _ _ _).slots[_]? = _; rw [arrV_read _ _ hlt]) rfl rfl hd (g H locs cells slots ls hr hS hl)
    · exact x_no
  · exact x_no
theorem x_iast {a t : Nat} {i : Int32} {x : Int32} {K2 : PH → Option (xO × PH)} (ht : xty[t]? = some .int) (hd : decode cc pc = .ok (.iastore, 1)) (hn : pc + 1 = n) (kk : ∀ P1, X G own nm cc nL ret d n lv st P1 (K2 P1)) : X G own nm cc nL ret d pc lv (.int x :: .int i :: .ref a :: st) P (xsI P a t i x K2) := by
  subst hn
  unfold xsI
  split
  · rename_i u N f ha
    split
    · rename_i hin
      obtain ⟨rfl, hin⟩ := hin
      refine x_heap (P1 := xup P a (.inl (u, N, .inl (upd f i.toNatClampNeg x)))) ⟨Nat.le_refl _, Nat.le_refl _⟩ (fun {p e R s m args below meth c} hC {H locs cells slots Q ls} hr hS hl hlim g => ?_) (kk (xup P a (.inl (u, N, .inl (upd f i.toNatClampNeg x)))))
      obtain ⟨h1, h2⟩ := xarr hr (xok_K hC) ht ha
      have hZ := (hr.2.2.2 a true _ ha).2 rfl
      refine W.iast hC.1 hC.2.1 h1 (h2 N (fun j => .int (f j))) (fun q => by cases q) (by show ¬ (i < 0 ∨ (arrV _ _ _).slots.size ≤ _); rw [arrV_size]; exact hin) rfl rfl hd fun H' e1 e2 e3 => ?_
      refine g H' _ cells slots ls (xr_put hr ha e2 (xsl_put e2 h1 e1 (by simp [Cell.setSlot]) e3) e3 ⟨?_, fun z => ?_⟩) (hS.put e2 hZ) hl
      · show H'[a]? = some (vp_cell _ _)
        rw [e1]
        rw [xset_i]
      · cases z; cases ht
    · exact x_no
  · exact x_no
theorem x_bast {a t : Nat} {i : Int32} {x : Int32} {K2 : PH → Option (xO × PH)} (ht : xty[t]? = some .byte) (hd : decode cc pc = .ok (.bastore, 1)) (hn : pc + 1 = n) (kk : ∀ P1, X G own nm cc nL ret d n lv st P1 (K2 P1)) : X G own nm cc nL ret d pc lv (.int x :: .int i :: .ref a :: st) P (xsI P a t i (vp_nar .byte x) K2) := by
  subst hn
  unfold xsI
  split
  · rename_i u N f ha
    split
    · rename_i hin
      obtain ⟨rfl, hin⟩ := hin
      refine x_heap (P1 := xup P a (.inl (u, N, .inl (upd f i.toNatClampNeg (vp_nar .byte x))))) ⟨Nat.le_refl _, Nat.le_refl _⟩ (fun {p e R s m args below meth c} hC {H locs cells slots Q ls} hr hS hl hlim g => ?_) (kk (xup P a (.inl (u, N, .inl (upd f i.toNatClampNeg (vp_nar .byte x))))))
      obtain ⟨h1, h2⟩ := xarr hr (xok_K hC) ht ha
      have hZ := (hr.2.2.2 a true _ ha).2 rfl
      refine W.bast hC.1 hC.2.1 h1 (h2 N (fun j => .int (f j))) (fun q => by cases q) (by show ¬ (i < 0 ∨ (arrV _ _ _).slots.size ≤ _); rw [arrV_size]; exact hin) rfl rfl hd fun H' e1 e2 e3 => ?_
      refine g H' _ cells slots ls (xr_put hr ha e2 (xsl_put e2 h1 e1 (by simp [Cell.setSlot]) e3) e3 ⟨?_, fun z j hj => ?_⟩) (hS.put e2 hZ) hl
      rotate_left
      · have hb := (hr.2.2.2 a true _ ha).1.2 z j hj
        show vp_nar .byte (upd f i.toNatClampNeg (vp_nar .byte x) j) = upd f i.toNatClampNeg (vp_nar .byte x) j
        unfold upd
        split
        · simp [vp_nar, narrow]
        · exact hb
      show H'[a]? = some (vp_cell _ _)
      rw [e1]
      have e : narrow .byte (.int x) = .int (vp_nar .byte x) := by simp [narrow, vp_nar]
      rw [e, xset_i]
    · exact x_no
  · exact x_no
theorem x_last {a t : Nat} {i : Int32} {x : Int64} {K2 : PH → Option (xO × PH)} (ht : xty[t]? = some .long) (hd : decode cc pc = .ok (.lastore, 1)) (hn : pc + 1 = n) (kk : ∀ P1, X G own nm cc nL ret d n lv st P1 (K2 P1)) : X G own nm cc nL ret d pc lv (.long x :: .int i :: .ref a :: st) P (xsL P a t i x K2) := by
  subst hn
  unfold xsL
  split
  · rename_i u N f ha
    split
    · rename_i hin
      obtain ⟨rfl, hin⟩ := hin
      refine x_heap (P1 := xup P a (.inl (u, N, .inr (.inl (vp_updL f i.toNatClampNeg x))))) ⟨Nat.le_refl _, Nat.le_refl _⟩ (fun {p e R s m args below meth c} hC {H locs cells slots Q ls} hr hS hl hlim g => ?_) (kk (xup P a (.inl (u, N, .inr (.inl (vp_updL f i.toNatClampNeg x))))))
      obtain ⟨h1, h2⟩ := xarr hr (xok_K hC) ht ha
      have hZ := (hr.2.2.2 a true _ ha).2 rfl
      refine W.last hC.1 hC.2.1 h1 (h2 N (fun j => .long (f j))) (fun q => by cases q) (by show ¬ (i < 0 ∨ (arrV _ _ _).slots.size ≤ _); rw [arrV_size]; exact hin) rfl rfl hd fun H' e1 e2 e3 => ?_
      refine g H' _ cells slots ls (xr_put hr ha e2 (xsl_put e2 h1 e1 (by simp [Cell.setSlot]) e3) e3 ⟨?_, fun _ => trivial⟩) (hS.put e2 hZ) hl
      show H'[a]? = some (vp_cell _ _)
      rw [e1]
      rw [xset_l]
    · exact x_no
  · exact x_no
theorem x_alen {a : Nat} {K2 : Int32 → Option (xO × PH)} (hd : decode cc pc = .ok (.arraylength, 1)) (hn : pc + 1 = n) (kk : ∀ x, X G own nm cc nL ret d n lv (.int x :: st) P (K2 x)) : X G own nm cc nL ret d pc lv (.ref a :: st) P (xlen P a K2) := by
  subst hn
  unfold xlen
  split
  · rename_i w u N f ha
    split
    · rename_i hu
      refine x_heap xLe.rf (fun {p e R s m args below meth c} hC {H locs cells slots Q ls} hr hS hl hlim g => ?_) (kk (Int32.ofNat N))
      obtain ⟨ty, ht⟩ : ∃ ty, xty[u]? = some ty := ⟨xty[u]'hu, List.getElem?_eq_getElem hu⟩
      obtain ⟨cell, h1, h2, h3, h4, h5, -⟩ := xarrF hr (xok_K hC) hC.2.2.2.2.2.2.1 ht ha
      exact W.alen (n := Int32.ofNat N) hC.1 hC.2.1 h1 h2 h5 rfl rfl hd (g H locs cells slots ls hr hS hl)
    · exact x_no
  · exact x_no
end HEAP4
/-! stores of references, new things, casts -/
def xCan (C T : String) : Prop := C = T ∨ Cond.castable C T ∈ lw_tbl
theorem xcan_asg {G : xG} {s : State} {C T : String} {c t : ClassId} (hO : xOK G) (hW : (g0 G).WarmedH s.vm) (h : xCan C T) (hc : s.vm.findClass C = some c) (ht : s.vm.findClass T = some t) : s.vm.assignable c t = true := by
  rcases h with rfl | h
  · cases hc.symm.trans ht
    exact va_asg _ _
  · obtain ⟨⟨A, hA⟩, -⟩ := hO
    obtain ⟨c', t', h1, h2, h3⟩ := Cond.castable_spec (va_Nw.warmC hW (va_Nw.of rfl (hA _ h)))
    cases hc.symm.trans h1
    cases ht.symm.trans h2
    exact h3
theorem xmay_ok : ∀ (t ci : Nat), xmay t ci = true → ∃ (r : vw_C) (T : String), xcl[ci]? = some r ∧ xty[t]? = some (.object T) ∧ xCan r.1 T := by
  intro t ci h
  simp only [xmay, Bool.or_eq_true, Bool.and_eq_true, beq_iff_eq] at h
  rcases h with ⟨rfl, (((((((rfl | rfl) | rfl) | rfl) | rfl) | rfl) | rfl) | rfl)⟩ | ⟨rfl, rfl⟩
  · exact ⟨_, _, rfl, rfl, Or.inr q3494⟩
  · exact ⟨_, _, rfl, rfl, Or.inr q3501⟩
  · exact ⟨_, _, rfl, rfl, Or.inr q3505⟩
  · exact ⟨_, _, rfl, rfl, Or.inr q3506⟩
  · exact ⟨_, _, rfl, rfl, Or.inr q3515⟩
  · exact ⟨_, _, rfl, rfl, Or.inr q3518⟩
  · exact ⟨_, _, rfl, rfl, Or.inr q3495⟩
  · exact ⟨_, _, rfl, rfl, Or.inr q3503⟩
  · exact ⟨_, _, rfl, rfl, Or.inl rfl⟩
/-- an object's cell, its class by name -/
theorem xrecv {G : xG} {P : PH} {H : Heap} {s : State} {a ci : Nat} {w : Bool} {fs : List Value} {r : vw_C} (hr : xr G P H) (hK : xK G s) (hc : xcl[ci]? = some r) (ha : P.1 a = some (w, .inr (ci, fs))) : ∃ cell : Cell, H[a]? = some cell ∧ cell.vm.isStatics = false ∧ s.vm.findClass r.1 = some cell.cls ∧ cell.vm ≠ .unknown := by
  obtain ⟨-, cell, q1, q2, ⟨q3, q4⟩, -⟩ := xobjF hr hc ha
  exact ⟨cell, q1, q4, by rw [q2]; exact (hK.1 ci _ hc).1, q3⟩
section HEAP5
variable {G : xG} {own nm : String} {cc : ByteArray} {nL d pc n : Nat} {ret : Option FieldType} {lv : List (Nat × Value)} {st : List Value} {P : PH} {K K1 K2 : Option (xO × PH)}
theorem x_aast {a t : Nat} {i : Int32} {x : Option Nat} {T : String} {K2 : PH → Option (xO × PH)} (ht : xty[t]? = some (.object T)) (h7 : t ≠ 7) (hd : decode cc pc = .ok (.aastore, 1)) (hn : pc + 1 = n) (kk : ∀ P1, X G own nm cc nL ret d n lv st P1 (K2 P1)) : X G own nm cc nL ret d pc lv (va_rf x :: .int i :: .ref a :: st) P (xsR P a t i x K2) := by
  subst hn
  unfold xsR
  split
  · rename_i u N f ha
    split
    · rename_i hin
      obtain ⟨rfl, hin, hmay⟩ := hin
      refine x_heap (P1 := xup P a (.inl (u, N, .inr (.inr (.inr (.inr (updR f i.toNatClampNeg x))))))) ⟨Nat.le_refl _, Nat.le_refl _⟩ (fun {p e R s m args below meth c} hC {H locs cells slots Q ls} hr hS hl hlim g => ?_) (kk (xup P a (.inl (u, N, .inr (.inr (.inr (.inr (updR f i.toNatClampNeg x))))))))
      have hK := xok_K hC
      obtain ⟨h1, h2⟩ := xarr hr hK ht ha
      have hZ := (hr.2.2.2 a true _ ha).2 rfl
      have fin : ∀ H' : Heap, H'[a]? = some ((vp_cell (gA G u) (N, .inr (.inr (.inr (.inr f))))).setSlot i.toNatClampNeg (va_rf x)) → H'.size = H.size → (∀ q, q ≠ a → H'[q]? = H[q]?) → W p (gl G) e R s m args below meth c H' (locs ++ [⟨a, i.toNatClampNeg⟩]) cells slots Q (F0 m (pc + 1) ls st) := by
        intro H' e1 e2 e3
        refine g H' _ cells slots ls (xr_put hr ha e2 (xsl_put e2 h1 e1 (by simp [Cell.setSlot]) e3) e3 ⟨?_, fun _ => trivial⟩) (hS.put e2 hZ) hl
        show H'[a]? = some (vp_cell _ _)
        rw [e1, xset_q]
      have hlt : i.toNatClampNeg < N := Nat.not_le.mp fun q => hin (Or.inr q)
      cases x with
      | none => exact va_WaastN hC.1 hC.2.1 h1 (h2 N (fun j => va_rf (f j))) (fun q => by cases q) (by show ¬ (i < 0 ∨ (arrV _ _ _).slots.size ≤ _); rw [arrV_size]; exact hin) rfl rfl hd fin
      | some b =>
        simp only [xmayq] at hmay
        split at hmay
        · rename_i w ci fs hb
          obtain ⟨r, T', hr1, hr2, hr3⟩ := xmay_ok u ci hmay
          rw [ht] at hr2
          cases hr2
          obtain ⟨kA, comp, k1, k2, k3, -⟩ := (hK.2 u _ ht).2 h7
          obtain ⟨cv, g1, g2, g3, g4⟩ := xrecv hr hK hr1 hb
          have hz := xcan_asg hC.2.2.2.2.2.2.2.2.2.2.2.1 hC.2.2.2.2.2.2.1 hr3 g3 k3
          have hkc : ∃ kc, s.vm.classes[comp]? = some kc := (Vm.findClass_spec k3).imp fun _ h => h.1
          have hkv : ∃ kc, s.vm.classes[cv.cls]? = some kc := (Vm.findClass_spec g3).imp fun _ h => h.1
          obtain ⟨kc, hkc⟩ := hkc
          obtain ⟨kv, hkv⟩ := hkv
          exact W.aast hC.1 hC.2.1 h1 (fun q h => by cases h) (fun h => by cases h) k1 k2 rfl hkc ⟨fun q => hin (Or.inl q), by show _ < (arrV _ _ _).slots.size; rw [arrV_size]; exact hlt⟩ g1 (fun q h => by rw [h] at g2; cases g2) hkv hz rfl rfl hd fin
        · cases hmay
    · exact x_no
  · exact x_no
end HEAP5
section HEAP6
variable {G : xG} {own nm : String} {cc : ByteArray} {nL d pc n : Nat} {ret : Option FieldType} {lv : List (Nat × Value)} {st : List Value} {P : PH} {K K1 K2 : Option (xO × PH)}
theorem x_gets {j index : Nat} {e : String × String × String × (Int32 ⊕ Nat)} (hj : xstat[j]? = some e) (hlink : Cond.fieldLink own index e.1 e.2.1 e.2.2.1 ∈ lw_all ∨ ∃ host, Cond.fieldLinkNest own index e.1 e.2.1 e.2.2.1 host ∈ lw_tbl) (hd : decode cc pc = .ok (.getstatic index, 3)) (hn : pc + 3 = n) (kk : X G own nm cc nL ret d n lv (xval G e.2.2.2 :: st) P K) : X G own nm cc nL ret d pc lv st P K := by
  subst hn
  refine x_heap xLe.rf (fun {p e R s m args below meth c} hC {H locs cells slots Q ls} hr hS hl hlim g => ?_) kk
  obtain ⟨cf, kf, fi, f, a, cell, h1, h2, h3, h4, h5, h6, h7, h8⟩ := (hC.2.2.2.2.2.2.2.2.2.2.2.1.2.2.1 j _ hj).moved hC.2.2.2.2.2.2.1.alike
  have hcell : H[a]? = some cell := by rw [hr.2.2.1 a (by have := (Array.getElem?_eq_some_iff.mp h5).1; exact this)]; exact h5
  have g2 := g H locs cells slots ls hr hS hl
  rcases hlink with hlink | ⟨host, hlink⟩
  · exact W.gets hC.1 hC.2.1 hC.2.2.2.2.1 (xok_hts hC _ hlink) h1 h2 h3 h4 hcell (fun e => by rw [e] at h6; cases h6) h7 rfl hd g2
  · exact va_WgetsN hC.1 hC.2.1 hC.2.2.2.2.1 (xnest hC.2.2.2.2.2.2.2.2.2.2.2.1 hC.2.2.2.2.2.2.1 hlink) h1 h2 h3 h4 hcell (fun e => by rw [e] at h6; cases h6) h7 rfl hd g2
/-- a static that holds a constant's address -/
def xcon {α : Type} (P : PH) (k : Nat) (K : Option Nat → Option α) : Option α := K (P.2.2.2 k)
theorem x_getsR {j k index : Nat} {e : String × String × String × (Int32 ⊕ Nat)} {K2 : Option Nat → Option (xO × PH)} (hj : xstat[j]? = some e) (he : e.2.2.2 = .inr k) (hlink : Cond.fieldLink own index e.1 e.2.1 e.2.2.1 ∈ lw_all ∨ ∃ host, Cond.fieldLinkNest own index e.1 e.2.1 e.2.2.1 host ∈ lw_tbl) (hd : decode cc pc = .ok (.getstatic index, 3)) (hn : pc + 3 = n) (kk : ∀ x, X G own nm cc nL ret d n lv (va_rf x :: st) P (K2 x)) : X G own nm cc nL ret d pc lv st P (xcon P k K2) := by
  by_cases hx : P.2.2.2 = gX G
  · refine x_gets hj hlink hd hn ?_
    rw [he]
    show X G own nm cc nL ret d n lv (va_rf (gX G k) :: st) P (K2 (P.2.2.2 k))
    rw [← hx]
    exact kk _
  · intro o P' h
    exact ⟨(kk (P.2.2.2 k) o P' h).1, fun hl p e' R s m args below meth c hC H locs cells slots ls hr => absurd hr.1.2.2 hx⟩
theorem xroom {G : xG} {p : Program} {e : Env} {R : Room} {s : State} {m : MethodId} {args : Array Value} {below : List Frame} {meth : Method} {c : Code} {P : PH} {H : Heap} {k : Nat} {x : PC} {locs : List Loc} (hC : xok G (p, e, R, s, m, args, below, meth, c) own nm cc nL ret d) (hr : xr G P H) (hS : xS G s H locs) (hl : xLim G (xpush P x k)) (hs : xsl s.heap ≤ xsl H) : (H.size - s.heap.size) + 1 ≤ R.cells ∧ (xsl H - xsl s.heap) + k ≤ R.slots := by
  have h1 := hr.1.1
  have h2 := hr.1.2.1
  have h3 := hC.2.2.2.2.2.2.2.2.2.1
  have h4 := hC.2.2.2.2.2.2.2.2.2.2.1
  have h5 : P.2.1 + 1 ≤ gC G := hl.1
  have h6 : P.2.2.1 + k ≤ gS G := hl.2
  have h7 := hS.1
  omega
theorem xtight2 {p : Program} {l : Launch} {e : Env} {R : Room} {s : State} {m : MethodId} {args : Array Value} {below : List Frame} {meth : Method} {c : Code} {H : Heap} {locs : List Loc} {cells slots : Nat} {Q : State → Prop} {g : JFrame}
    (k : xsl s.heap ≤ xsl H → W p l e R s m args below meth c H locs (H.size - s.heap.size) (xsl H - xsl s.heap) Q g) : W p l e R s m args below meth c H locs cells slots Q g := by
  intro T hT X
  refine (xtight (k ?_)) T hT X
  obtain ⟨q1, q2, q3, q4, q5, q6⟩ := X.same
  have hH : (T.setVm s.vm).heap = H := hT
  have hsz : xsl H = xsl s.heap + ((H.toList.drop s.heap.size).map (fun c => c.slots.size)).sum := by
    refine xsl_split (fun q x hx => ?_) (by rw [← hH]; exact q2)
    obtain ⟨c', h1, -, h3, -⟩ := q6 q x hx
    exact ⟨c', by rw [← hH]; exact h1, h3⟩
  omega
theorem x_new {ci index : Nat} {fs : List Value} {K2 : Nat → PH → Option (xO × PH)} {Cn : String} {T : u_T} {N : Nat} {ty : Nat → FieldType} (hc : xCls ci Cn T N ty) (h0 : 0 < N) (hcl : Cond.classLink own index Cn ∈ lw_all) (hinst : Cond.instantiable Cn N ∈ lw_all) (hini : Cond.initialized Cn ∈ lw_all) (hfs : (List.range N).map (fun j => defaultValue (ty j)) = fs) (hd : decode cc pc = .ok (.new index, 3)) (hn : pc + 3 = n) (kk : ∀ a P1, X G own nm cc nL ret d n lv (.ref a :: st) P1 (K2 a P1)) : X G own nm cc nL ret d pc lv st P (xnew P ci fs K2) := by
  subst hn
  have hlen : fs.length = N := by rw [← hfs]; simp
  refine x_heap (P1 := xpush P (.inr (ci, fs)) fs.length) ⟨Nat.le_succ _, Nat.le_add_right _ _⟩ (fun {p e R s m args below meth c} hC {H locs cells slots Q ls} hr hS hl hlim g => ?_) (kk P.2.1 (xpush P (.inr (ci, fs)) fs.length))
  have hts := xok_hts hC
  have hK := xok_K hC
  obtain ⟨hfc, hSl, hCA⟩ := hK.1 ci _ hc.1
  obtain ⟨cC', kC', hfc', hkC', -, hsz⟩ := Cond.instantiable_spec (hts _ hinst)
  refine xtight2 fun hle => ?_
  obtain ⟨r1, r2⟩ := xroom hC hr hS hlim hle
  refine W.newcK hC.1 hC.2.1 hC.2.2.2.2.1 (hts _ hcl) (hts _ hinst) (hts _ hini) rfl hd r1 (by rw [hlen] at r2; exact r2) hfc rfl fun H1 kC hkC e1 z1 o1 => ?_
  have e2 := push_eq z1 e1 o1
  subst e2
  cases hfc.symm.trans hfc'
  cases hkC.symm.trans hkC'
  have e3 : (xpush P (.inr (ci, fs)) fs.length).2.1 = H.size + 1 := by show P.2.1 + 1 = _; rw [hr.1.1]
  rw [← hr.1.1]
  refine g _ locs _ _ ls (xr_push hr ?_ ?_) hS.push hl
  · exact (Array.size_map (f := defaultValue)).trans (hsz.2.2.trans hlen.symm)
  · refine ⟨_, hc.1, hlen, ?_⟩
    rw [hr.1.1]
    refine (u_born ty hts hc.2.1 ⟨hSl, hCA h0⟩ hkC e1 hc.2.2.1).to fun k hk => ?_
    show _ = vp_V fs k
    rw [← hfs]
    have hk' : k < N := hk
    simp [vp_V, List.getD_eq_getElem?_getD, hk']
end HEAP6
section HEAP6b
variable {G : xG} {own nm : String} {cc : ByteArray} {nL d pc n : Nat} {ret : Option FieldType} {lv : List (Nat × Value)} {st : List Value} {P : PH} {K K1 K2 : Option (xO × PH)}
theorem xfcls {G : xG} {s : State} {t : Nat} {ty : FieldType} {cA : ClassId} (hK : xK G s) (ht : xty[t]? = some ty) (h7 : t ≠ 7) (h : s.vm.findClass ("[" ++ ty.toString) = some cA) : cA = gA G t := by
  have h1 := (hK.2 t ty ht).2 h7
  cases ty with
  | object C =>
    obtain ⟨kA, comp, -, -, -, h4⟩ := h1
    exact Option.some.inj (h.symm.trans h4)
  | _ => exact Option.some.inj (h.symm.trans h1)
theorem x_newarr {t : Nat} {i : Int32} {atype : ArrayType} {x : vp_A} (ht : xty[t]? = some (newarray.typeOf atype)) (hw : Cond.arrayClass (newarray.typeOf atype) ∈ lw_all) (hx : ∀ cA, arrV cA i.toNatClampNeg (fun _ => defaultValue (newarray.typeOf atype)) = vp_cell cA x) (hx1 : x.1 = i.toNatClampNeg) (hx2 : xbf (t, x)) (hb : componentBytes (newarray.typeOf atype) ≤ 8) (hd : decode cc pc = .ok (.newarray atype, 2)) (hn : pc + 2 = n) (h0 : ¬ i < 0) (h1 : i.toNatClampNeg ≤ 1000000) (kk : X G own nm cc nL ret d n lv (.ref P.2.1 :: st) (xpush P (.inl (t, x)) i.toNatClampNeg) K) : X G own nm cc nL ret d pc lv (.int i :: st) P K := by
  subst hn
  refine x_heap ⟨Nat.le_succ _, Nat.le_add_right _ _⟩ (fun {p e R s m args below meth c} hC {H locs cells slots Q ls} hr hS hl hlim g => ?_) kk
  have hts := xok_hts hC
  have hK := xok_K hC
  refine xtight2 fun hle => ?_
  obtain ⟨r1, r2⟩ := xroom hC hr hS hlim hle
  refine va_newaK hC.1 hC.2.1 (hts _ hw) rfl hd rfl h0 rfl (Nat.le_trans (Nat.mul_le_mul h1 hb) (by omega)) r1 r2 rfl fun H1 cA e1 z1 o1 hAr hNm => ?_
  have e2 := push_eq z1 e1 o1
  subst e2
  have hcA := xfcls hK ht (fun e => by subst e; cases atype <;> cases ht) hNm
  subst hcA
  rw [← hr.1.1]
  refine g _ locs _ _ ls (xr_push hr (arrV_size _ _ _) ⟨?_, hx2⟩) hS.push hl
  show (H.push _)[P.2.1]? = some (vp_cell (gA G t) x)
  rw [hr.1.1, ← hx]
  exact e1
theorem x_newI {t : Nat} {i : Int32} {atype : ArrayType} {K2 : Nat → PH → Option (xO × PH)} (ht : xty[t]? = some (newarray.typeOf atype)) (hw : Cond.arrayClass (newarray.typeOf atype) ∈ lw_all) (hdef : defaultValue (newarray.typeOf atype) = .int 0) (hb : componentBytes (newarray.typeOf atype) ≤ 8) (hd : decode cc pc = .ok (.newarray atype, 2)) (hn : pc + 2 = n) (kk : ∀ a P1, X G own nm cc nL ret d n lv (.ref a :: st) P1 (K2 a P1)) : X G own nm cc nL ret d pc lv (.int i :: st) P (xnaI P t i K2) := by
  unfold xnaI
  split
  · rename_i h
    exact x_newarr ht hw (x := (i.toNatClampNeg, .inl (fun _ => 0))) (fun cA => by rw [hdef, vp_cell_i]) rfl (fun _ j _ => rfl) hb hd hn h.1 h.2 (kk _ _)
  · exact x_no
theorem x_newL {t : Nat} {i : Int32} {atype : ArrayType} {K2 : Nat → PH → Option (xO × PH)} (ht : xty[t]? = some (newarray.typeOf atype)) (hw : Cond.arrayClass (newarray.typeOf atype) ∈ lw_all) (hdef : defaultValue (newarray.typeOf atype) = .long 0) (hb : componentBytes (newarray.typeOf atype) ≤ 8) (hd : decode cc pc = .ok (.newarray atype, 2)) (hn : pc + 2 = n) (kk : ∀ a P1, X G own nm cc nL ret d n lv (.ref a :: st) P1 (K2 a P1)) : X G own nm cc nL ret d pc lv (.int i :: st) P (xnaL P t i K2) := by
  unfold xnaL
  split
  · rename_i h
    exact x_newarr ht hw (x := (i.toNatClampNeg, .inr (.inl (fun _ => 0)))) (fun cA => by rw [hdef, vp_cell_l]) rfl (fun _ => trivial) hb hd hn h.1 h.2 (kk _ _)
  · exact x_no
theorem x_anew {t index : Nat} {i : Int32} {T : String} {K2 : Nat → PH → Option (xO × PH)} (ht : xty[t]? = some (.object T)) (h7 : t ≠ 7) (hcl : Cond.classLink own index T ∈ lw_all) (hw : Cond.arrayOver (.object T) ∈ lw_tbl) (hd : decode cc pc = .ok (.anewarray index, 3)) (hn : pc + 3 = n) (kk : ∀ a P1, X G own nm cc nL ret d n lv (.ref a :: st) P1 (K2 a P1)) : X G own nm cc nL ret d pc lv (.int i :: st) P (xnaR P t i K2) := by
  subst hn
  unfold xnaR
  split
  · rename_i h
    obtain ⟨h0, h1⟩ := h
    refine x_heap (P1 := xpush P (.inl (t, i.toNatClampNeg, .inr (.inr (.inr (.inr (fun _ => none)))))) i.toNatClampNeg) ⟨Nat.le_succ _, Nat.le_add_right _ _⟩ (fun {p e R s m args below meth c} hC {H locs cells slots Q ls} hr hS hl hlim g => ?_) (kk P.2.1 _)
    have hts := xok_hts hC
    have hK := xok_K hC
    refine xtight2 fun hle => ?_
    obtain ⟨r1, r2⟩ := xroom hC hr hS hlim hle
    obtain ⟨⟨A, hA⟩, -⟩ := hC.2.2.2.2.2.2.2.2.2.2.2.1
    have hAO : va_AO T s := va_AO.moved hC.2.2.2.2.2.2.1.alike (va_AO.of (hA _ hw))
    refine W.anew hC.1 hC.2.1 hC.2.2.2.2.1 (hts _ hcl) (va_AO.use hAO) rfl hd rfl h0 (Nat.le_trans (Nat.mul_le_mul_right 4 h1) (by omega)) r1 r2 fun cA kA comp f1 f2 f3 f4 => ?_
    have hcA := xfcls hK ht h7 f1
    subst hcA
    rw [← hr.1.1]
    have e0 : ({ cls := gA G t, slots := Array.replicate i.toNatClampNeg .null, vm := .none } : Cell) = arrV (gA G t) i.toNatClampNeg (fun _ => .null) := (arrV_new _ _ _)
    refine g _ locs _ _ ls (xr_push hr (by simp) ⟨?_, fun _ => trivial⟩) hS.push hl
    show (H.push _)[P.2.1]? = some (vp_cell (gA G t) _)
    rw [hr.1.1, e0]
    simp [vp_cell_q, va_rf]
  · exact x_no
theorem x_cast {x : Option Nat} {index : Nat} {cs : List Nat} {T : String} (hcl : Cond.classLink own index T ∈ lw_all) (hcs : ∀ c ∈ cs, ∃ r : vw_C, xcl[c]? = some r ∧ 0 < r.2.2 ∧ xCan r.1 T) (hd : decode cc pc = .ok (.checkcast index, 3)) (hn : pc + 3 = n) (kk : X G own nm cc nL ret d n lv (va_rf x :: st) P K) : X G own nm cc nL ret d pc lv (va_rf x :: st) P (xcst P x cs K) := by
  subst hn
  cases x with
  | none => exact x_pure (fun hx hb _ _ hl k => lv_castN hx hb hd (k _ hl)) kk
  | some a =>
    unfold xcst
    dsimp only
    split
    · rename_i w c fs ha
      split
      · rename_i hc
        obtain ⟨r, hr1, hr0, hr2⟩ := hcs c (List.contains_iff_mem.mp hc)
        refine x_heap xLe.rf (fun {p e R s m args below meth c} hC {H locs cells slots Q ls} hr hS hl hlim g => ?_) kk
        have hts := xok_hts hC
        have hK := xok_K hC
        obtain ⟨cv, g1, g2, g3, g4⟩ := xrecv hr hK hr1 ha
        have g9 := g H locs cells slots ls hr hS hl
        rcases hr2 with e | hr2
        · subst e
          exact va_castS hC.1 hC.2.1 hC.2.2.2.2.1 (hts _ hcl) ((hK.1 _ _ hr1).2.2 hr0) ⟨cv, g1, g2, g3⟩ hd g9
        · obtain ⟨⟨A, hA⟩, -⟩ := hC.2.2.2.2.2.2.2.2.2.2.2.1
          exact va_castY hC.1 hC.2.1 hC.2.2.2.2.1 (hts _ hcl) (va_Nw.warmC hC.2.2.2.2.2.2.1 (va_Nw.of rfl (hA _ hr2))) ⟨cv, g1, g2, g3⟩ hd g9
      · exact x_no
    · exact x_no
/-- an array of kind t, or null -/
def xcsa {α : Type} (P : PH) (x : Option Nat) (t : Nat) (K : Option α) : Option α := match x with
  | none => K
  | some a => match P.1 a with
    | some (true, .inl (u, _, _)) => if u = t then K else none
    | _ => none
theorem x_casta {x : Option Nat} {index t : Nat} {ty : FieldType} {T : String} (hcl : Cond.classLink own index T ∈ lw_all) (ht : xty[t]? = some ty) (h7 : t ≠ 7) (hT : T = "[" ++ ty.toString) (hd : decode cc pc = .ok (.checkcast index, 3)) (hn : pc + 3 = n) (kk : X G own nm cc nL ret d n lv (va_rf x :: st) P K) : X G own nm cc nL ret d pc lv (va_rf x :: st) P (xcsa P x t K) := by
  subst hn
  cases x with
  | none => exact x_pure (fun hx hb _ _ hl k => lv_castN hx hb hd (k _ hl)) kk
  | some a =>
    unfold xcsa
    dsimp only
    split
    · rename_i u N f ha
      split
      · rename_i e
        subst e
        refine x_heap xLe.rf (fun {p e R s m args below meth c} hC {H locs cells slots Q ls} hr hS hl hlim g => ?_) kk
        have hK := xok_K hC
        have g9 := g H locs cells slots ls hr hS hl
        have hP1 : va_P (gD G) [] [(a, .inl (gA G u, (N, f)))] H := by
          intro k q hq
          have hz : k < 1 := (List.getElem?_eq_some_iff.mp hq).1
          rw [show k = 0 by omega] at hq
          cases hq
          exact (show xat G a (.inl (u, (N, f))) H from (hr.2.2.2 a true _ ha).1).1
        have hfc : s.vm.findClass T = some (gA G u) := by
          rw [hT]
          have h1 := (hK.2 u ty ht).2 h7
          cases ty with
          | object C => obtain ⟨_, _, _, _, _, h4⟩ := h1; exact h4
          | _ => exact h1
        exact va_castA hC.1 hC.2.1 hC.2.2.2.2.1 (xok_hts hC _ hcl) hP1 0 rfl hfc hd g9
      · exact x_no
    · exact x_no
/-- instanceof, of an object of one of these classes, which all are it -/
def xins {α : Type} (P : PH) (x : Option Nat) (cs : List Nat) (K : Int32 → Option α) : Option α := match x with
  | none => K 0
  | some a => match P.1 a with
    | some (_, .inr (c, _)) => if cs.contains c = true then K 1 else none
    | _ => none
theorem x_inst {x : Option Nat} {index : Nat} {cs : List Nat} {T : String} {K2 : Int32 → Option (xO × PH)} (hcl : Cond.classLink own index T ∈ lw_all) (hcs : ∀ c ∈ cs, ∃ r : vw_C, xcl[c]? = some r ∧ 0 < r.2.2 ∧ xCan r.1 T) (hd : decode cc pc = .ok (.instanceof index, 3)) (hn : pc + 3 = n) (kk : ∀ y, X G own nm cc nL ret d n lv (.int y :: st) P (K2 y)) : X G own nm cc nL ret d pc lv (va_rf x :: st) P (xins P x cs K2) := by
  subst hn
  cases x with
  | none => exact x_pure (fun hx hb _ _ hl k => lv_instN hx hb hd (k _ hl)) (kk 0)
  | some a =>
    unfold xins
    dsimp only
    split
    · rename_i w c fs ha
      split
      · rename_i hc
        obtain ⟨r, hr1, hr0, hr2⟩ := hcs c (List.contains_iff_mem.mp hc)
        refine x_heap xLe.rf (fun {p e R s m args below meth c} hC {H locs cells slots Q ls} hr hS hl hlim g => ?_) (kk 1)
        have hts := xok_hts hC
        have hK := xok_K hC
        obtain ⟨cv, g1, g2, g3, g4⟩ := xrecv hr hK hr1 ha
        have g9 := g H locs cells slots ls hr hS hl
        rcases hr2 with e | hr2
        · subst e
          exact va_instS hC.1 hC.2.1 hC.2.2.2.2.1 (hts _ hcl) ((hK.1 _ _ hr1).2.2 hr0) ⟨cv, g1, g2, g3⟩ hd g9
        · obtain ⟨⟨A, hA⟩, -⟩ := hC.2.2.2.2.2.2.2.2.2.2.2.1
          exact va_instY hC.1 hC.2.1 hC.2.2.2.2.1 (hts _ hcl) (va_Nw.warmC hC.2.2.2.2.2.2.1 (va_Nw.of rfl (hA _ hr2))) ⟨cv, g1, g2, g3⟩ hd g9
      · exact x_no
    · exact x_no
end HEAP6b
/-! ends, contracts, calls -/
def rI {σ : Type} (v : Int32) (s : σ) : Option (xO × σ) := some (.inr (some (.int v)), s)
def rL {σ : Type} (v : Int64) (s : σ) : Option (xO × σ) := some (.inr (some (.long v)), s)
def rR {σ : Type} (x : Option Nat) (s : σ) : Option (xO × σ) := some (.inr (some (va_rf x)), s)
def rV {σ : Type} (s : σ) : Option (xO × σ) := some (.inr none, s)
def rT {σ : Type} (q : Nat) (s : σ) : Option (xO × σ) := some (.inl q, s)
def xcO {σ β : Type} (r : Option (xO × σ)) (K : Option Value → σ → Option β) : Option β := match r with
  | some (.inr v, s) => K v s
  | _ => none
def xcI {σ β : Type} (r : Option (xO × σ)) (K : Int32 → σ → Option β) : Option β := match r with
  | some (.inr (some (.int x)), s) => K x s
  | _ => none
def xcL {σ β : Type} (r : Option (xO × σ)) (K : Int64 → σ → Option β) : Option β := match r with
  | some (.inr (some (.long x)), s) => K x s
  | _ => none
def xcR {σ β : Type} (r : Option (xO × σ)) (K : Option Nat → σ → Option β) : Option β := match r with
  | some (.inr (some (.ref a)), s) => K (some a) s
  | some (.inr (some .null), s) => K none s
  | _ => none
def xcV {σ β : Type} (r : Option (xO × σ)) (K : σ → Option β) : Option β := match r with
  | some (.inr none, s) => K s
  | _ => none
theorem xcI_O {σ β : Type} (r : Option (xO × σ)) (K : Int32 → σ → Option β) : xcI r K = xcO r (fun v s => match v with
    | some (.int x) => K x s
    | _ => none) := by
  rcases r with _ | ⟨q | (_ | v), s⟩ <;> try rfl
  cases v <;> rfl
theorem xcL_O {σ β : Type} (r : Option (xO × σ)) (K : Int64 → σ → Option β) : xcL r K = xcO r (fun v s => match v with
    | some (.long x) => K x s
    | _ => none) := by
  rcases r with _ | ⟨q | (_ | v), s⟩ <;> try rfl
  cases v <;> rfl
theorem xcR_O {σ β : Type} (r : Option (xO × σ)) (K : Option Nat → σ → Option β) : xcR r K = xcO r (fun v s => match v with
    | some (.ref a) => K (some a) s
    | some .null => K none s
    | _ => none) := by
  rcases r with _ | ⟨q | (_ | v), s⟩ <;> try rfl
  cases v <;> rfl
theorem xcV_O {σ β : Type} (r : Option (xO × σ)) (K : σ → Option β) : xcV r K = xcO r (fun v s => match v with
    | none => K s
    | _ => none) := by
  rcases r with _ | ⟨q | (_ | v), s⟩ <;> rfl
section ENDS
variable {G : xG} {own nm : String} {cc : ByteArray} {nL d pc n : Nat} {ret : Option FieldType} {lv : List (Nat × Value)} {st : List Value} {P : PH} {K K1 K2 : Option (xO × PH)}
theorem x_end {v : Option Value}
    (f : ∀ {p : Program} {e : Env} {R : Room} {s : State} {m : MethodId} {args : Array Value} {below : List Frame} {meth : Method} {c : Code}, xok G (p, e, R, s, m, args, below, meth, c) own nm cc nL ret d → ∀ {H : Heap} {locs : List Loc} {cells slots : Nat} {ls : Array Slot} {Qc : Array Value → State → Outcome → State → Prop} {free : Addr → Prop},
      (∀ t : State, t.heap = H → s.WarmedH t.vm → Qc args s (.returned v) t) → (∀ q ∈ locs, free q.base) → W p (gl G) e R s m args below meth c H locs cells slots (MQ below Qc args s cells slots free) (F0 m pc ls st)) : X G own nm cc nL ret d pc lv st P (some (.inr v, P)) := by
  intro o P' h
  cases h
  refine ⟨xLe.rf, fun hl p e R s m args below meth c hC H locs cells slots ls hr hS hv => ?_⟩
  refine xtight2 fun hle => ?_
  have h1 := hr.1.1
  have h2 := hr.1.2.1
  refine W.widen (k := gC G - s.heap.size) (n := gS G - xsl s.heap) (by have := hl.1; omega) (by have := hl.2; omega) ?_
  refine W.mono ?_ (f hC (Qc := fun _ _ oc t => xoc (.inr v) oc ∧ xr G P t.heap) (free := fun q => gZ G ≤ q) (fun t ht hW => ⟨rfl, by rw [ht]; exact hr⟩) hS.2)
  rintro t ⟨oc, q1, q2, ⟨q3, q4⟩, L, ⟨q5, q6, q7⟩, q8⟩
  exact ⟨oc, q1, q2, q3, q4, q6, L, q7, q8⟩
theorem x_ireturn {v : Int32} (hd : decode cc pc = .ok (.ireturn, 1)) : X G own nm cc nL (some .int) d pc lv [.int v] P (rI v P) :=
  x_end fun {p e R s m args below meth c} hC {H locs cells slots ls Qc free} hq hf => W.iret hC.1 hC.2.1 hC.2.2.1 hq hf hd hC.2.2.2.2.2.1
theorem x_nreturn {v : Int32} {ty : FieldType} (hty : narrow ty (.int v) = .int (vp_nar ty v)) (hd : decode cc pc = .ok (.ireturn, 1)) : X G own nm cc nL (some ty) d pc lv [.int v] P (if vp_nar ty v = v then rI v P else none) := by
  split
  · rename_i h
    exact x_end fun {p e R s m args below meth c} hC {H locs cells slots ls Qc free} hq hf => W.zret hC.1 hC.2.1 hC.2.2.1 (by rw [hty, h]) hq hf hd hC.2.2.2.2.2.1
  · exact x_no
theorem x_lreturn {v : Int64} (hd : decode cc pc = .ok (.lreturn, 1)) : X G own nm cc nL (some .long) d pc lv [.long v] P (rL v P) :=
  x_end fun {p e R s m args below meth c} hC {H locs cells slots ls Qc free} hq hf => W.lret hC.1 hC.2.1 hC.2.2.1 hq hf hd hC.2.2.2.2.2.1
theorem x_areturn {x : Option Nat} {rt : FieldType} (hrt : (∃ n, rt = .object n) ∨ ∃ t, rt = .array t) (hd : decode cc pc = .ok (.areturn, 1)) : X G own nm cc nL (some rt) d pc lv [va_rf x] P (rR x P) :=
  x_end fun {p e R s m args below meth c} hC {H locs cells slots ls Qc free} hq hf => W.aret hC.1 hC.2.1 hC.2.2.1 hrt (by cases x; exact Or.inl rfl; exact Or.inr ⟨_, rfl⟩) hq hf hd hC.2.2.2.2.2.1
theorem x_return (hd : decode cc pc = .ok (.return_, 1)) : X G own nm cc nL none d pc lv [] P (rV P) :=
  x_end fun {p e R s m args below meth c} hC {H locs cells slots ls Qc free} hq hf => W.vret hC.1 hC.2.1 hC.2.2.1 hq hf hd hC.2.2.2.2.2.1
theorem x_objInit {a index : Nat} (h1 : Cond.methodLink own index objectInit ∈ lw_all) (h2 : Cond.instanceMethod objectInit ∈ lw_all) (h3 : Cond.code objectInit ⟨#[0xb1]⟩ 1 none ∈ lw_all) (hd : decode cc pc = .ok (.invokespecial index, 3)) (h0 : 1 ≤ d) (hw : (st.map fun v => v.category).sum ≤ 20) (hn : pc + 3 = n) (k : X G own nm cc nL ret d n lv st P K) : X G own nm cc nL ret d pc lv (.ref a :: st) P K := by
  subst hn
  refine x_heap xLe.rf (fun {p e R s m args below meth c} hC {H locs cells slots Q ls} hr hS hl hlim g => ?_) k
  have hts := xok_hts hC
  have q1 := hC.2.2.2.2.2.2.2.1
  have q2 := hC.2.2.2.2.2.2.2.2.1
  refine W.objInit hC.1 hC.2.1 hC.2.2.2.2.1 (hts _ h1) (hts _ h2) (hts _ h3) rfl (by rw [hC.2.2.2.1]; exact hl.1) rfl hd (by omega) ?_ (g H locs cells slots ls hr hS hl)
  show 2 * 0 + (st.map fun v => v.category).sum + 12 ≤ R.locals
  omega
end ENDS
/-! contracts -/
def xRm (G : xG) (d : Nat) (P : PH) : Room := { frames := d, locals := 90 * d, cells := gC G - P.2.1, slots := gS G - P.2.2.1 }
def xPc (G : xG) (As : List Value) (P : PH) : Array Value → State → Prop := fun a U => a = As.toArray ∧ (g0 G).WarmedH U.vm ∧ xr G P U.heap
def xEnd (G : xG) (P : PH) (o : xO) (P' : PH) : Array Value → State → Outcome → State → Prop := fun _ st oc t =>
  xoc o oc ∧ xr G P' t.heap ∧ st.WarmedH t.vm ∧ ∃ L, st.sameButNew ({ t with vm := st.vm } : State) L (gC G - P.2.1) (gS G - P.2.2.1) ∧ ∀ q ∈ L, gZ G ≤ q.base
/-- the method y, with arguments As over P, refines K, in d frames below its own -/
def CT (G : xG) (d : Nat) (y : MethodName) (bytes : ByteArray) (maxL : Nat) (ret : Option FieldType) (As : List Value) (P : PH) (K : Option (xO × PH)) : Prop :=
  ∀ (o : xO) (P' : PH), K = some (o, P') → xLe P P' ∧ (xLim G P' → MetFree (gl G) y (headSpec [Cond.code y bytes maxL ret] (xRm G d P)) (xPc G As P) (fun _ _ _ _ _ => True) (xEnd G P o P'))
theorem CT_of {G : xG} {d : Nat} {y : MethodName} {bytes : ByteArray} {maxL : Nat} {ret : Option FieldType} {As : List Value} {P : PH} {K : Option (xO × PH)} (hO : xOK G) (hy : plainFor y = true) (htb : xtb y.cls y.name = []) (hsl : (lg_sl As).length ≤ maxL)
    (k : X G y.cls y.name bytes maxL ret d 0 (lv_args 0 As) [] P K) : CT G d y bytes maxL ret As P K := by
  intro o P' hK
  refine ⟨(k o P' hK).1, fun hl => ?_⟩
  refine MetFree.of_bodySF (code := bytes) (maxLocals := maxL) (ret := ret) hy ?_ ?_
  · intro args s m h hn
    obtain ⟨meth, c, h1, h2, h3, h4, h5, h6, -, -⟩ := Cond.code_spec hn (atoms_spec (ws := [Cond.code y bytes maxL ret]) h _ List.mem_cons_self)
    exact ⟨meth, c, h1, h2, h3, h4, h5, h6⟩
  · intro p e s m args below meth c s₁ B hml hP _
    obtain ⟨rfl, hW, hr⟩ := hP
    have hC : xok G (p, e, (headSpec [Cond.code y bytes maxL ret] (xRm G d P)).room, s, m, As.toArray, below, meth, c) y.cls y.name bytes maxL ret d := by
      refine ⟨B.exec, B.bytes, B.returns, hml, findClass_of_methodNamed B.named, B.notSynchronized, hW, Nat.le_refl _, Nat.le_refl _, ?_, ?_, hO, (name_of_methodNamed B.named B.method).1, ?_⟩
      · show gC G ≤ s.heap.size + (gC G - P.2.1)
        rw [hr.1.1]; omega
      · show gS G ≤ xsl s.heap + (gS G - P.2.2.1)
        rw [hr.1.2.1]; omega
      · obtain ⟨meth', c', h1, h2, -, -, -, -, h7, -⟩ := Cond.code_spec B.named (atoms_spec (ws := [Cond.code y bytes maxL ret]) B.pre _ List.mem_cons_self)
        cases B.method.symm.trans h1
        have hX := Stand.of_body B
        cases hX.code.symm.trans h2
        rw [htb, Array.isEmpty_iff.mp h7]
        rfl
    have hh0 : s₁.heap = s.heap := by rw [B.state]; rfl
    have hx := (k o P' hK).2 hl _ _ _ _ _ _ _ _ _ hC s.heap [] 0 0 _ hr ⟨Nat.le_refl _, fun l h => by cases h⟩ (lv_entry As hsl)
    rw [← lg_entry_eq] at hx
    obtain ⟨t, a1, oc, b1, b2, b3, b4, b5, L, b6, b7⟩ := hx s₁ hh0 (Stand.of_body B)
    refine ⟨t, oc, a1, b1, b2, b3, b4, b5, L, ?_, b7⟩
    rw [hr.1.1, hr.1.2.1]
    exact b6
/-! calls -/
section CALLS
variable {G : xG} {own nm : String} {cc : ByteArray} {nL d pc n : Nat} {ret : Option FieldType} {lv : List (Nat × Value)} {st : List Value} {P : PH} {Kc : Option (xO × PH)}
theorem x_calls {len d' maxL : Nat} {y : MethodName} {bytes : ByteArray} {rt : Option FieldType} {As' rest : List Value} {K : Option (xO × PH)} (hct : CT G d' y bytes maxL rt As' P Kc) (hd' : d' < d) (hml : maxL ≤ 59) (hcode : Cond.code y bytes maxL rt ∈ lw_all) (hini : Cond.initialized y.cls ∈ lw_all)
    (row : ∀ {p : Program} {e : Env} {R : Room} {s : State} {m : MethodId} {args : Array Value} {below : List Frame} {meth : Method} {c : Code}, xok G (p, e, R, s, m, args, below, meth, c) own nm cc nL ret d → ∀ {T : State} {locs : List Loc} {cells slots : Nat} {ls : Array Slot} {Pre : Pt → Array Value → Prop} {Post : Pt → Array Value → Option Value → Pt → Prop}, Stand p (gl G) e R s m args below meth c T locs cells slots → xr G P T.heap → ls.size = c.maxLocals → Back (gl G) R p e below s args y len 20 Pre Post →
      (∀ vm₁, s.WarmedH vm₁ → Pre ⟨T.setVm vm₁, locs, cells, slots⟩ As'.toArray) →
      ∃ (v : Option Value) (vm₁ : Vm) (B : Pt), s.WarmedH vm₁ ∧ Stand p (gl G) e R s m args below meth c B.U B.locs B.cells B.slots ∧ Post ⟨T.setVm vm₁, locs, cells, slots⟩ As'.toArray v B ∧
        ∀ target, Steps p.tables e below (B.U.setTop (F0 m (pc + len) ls (v.toList ++ rest))) target → Steps p.tables e below (T.setTop (F0 m pc ls st)) target)
    (hK : ∀ r, K = some r → ∃ v P1, Kc = some (.inr v, P1)) (hk : ∀ v P1, Kc = some (.inr v, P1) → X G own nm cc nL ret d (pc + len) lv (v.toList ++ rest) P1 K) : X G own nm cc nL ret d pc lv st P K := by
  intro o P' h
  obtain ⟨v, P1, hKc⟩ := hK _ h
  obtain ⟨g1, g2⟩ := hk v P1 hKc o P' h
  obtain ⟨c1, c2⟩ := hct (.inr v) P1 hKc
  refine ⟨⟨Nat.le_trans c1.1 g1.1, Nat.le_trans c1.2 g1.2⟩, fun hl p e R s m args below meth c hC H locs cells slots ls hr hS hv => ?_⟩
  have hl1 : xLim G P1 := ⟨Nat.le_trans g1.1 hl.1, Nat.le_trans g1.2 hl.2⟩
  have hM : Met (gl G) y [Cond.code y bytes maxL rt] (xRm G d' P) (xPc G As' P) (fun _ st oc t => xoc (.inr v) oc ∧ xr G P1 t.heap) (gC G - P.2.1) (gS G - P.2.2.1) (fun q => gZ G ≤ q) := by
    refine fun p e h1 h2 h3 s m args below h4 h5 h6 h7 => ?_
    obtain ⟨n, oc, a1, a2, a3, a4, a5, a6, L, a7, a8⟩ := c2 hl1 p e h1 h2 h3 s m args below h4 h5 h6 h7
    exact ⟨n, oc, a1, a2, a3, ⟨a4, a5⟩, L, ⟨⟨v, a4⟩, a6, a7⟩, a8⟩
  have q1 := hC.2.2.2.2.2.2.2.1
  have q2 := hC.2.2.2.2.2.2.2.2.1
  have hts := xok_hts hC
  have hB : Back (gl G) R p e below s args y len 20 (PreOf R (gC G - P.2.1) (gS G - P.2.2.1) (xPc G As' P)) (PostOf (fun _ st oc t => xoc (.inr v) oc ∧ xr G P1 t.heap) (gC G - P.2.1) (gS G - P.2.2.1) (fun q => gZ G ≤ q)) := by
    refine back_of (bytes := bytes) (maxL := maxL) (ret := rt) hM (fun a U g mk h => h) rfl rfl (by show d' + 1 ≤ R.frames; omega) (by show 20 + (maxL + 11) + 90 * d' ≤ R.locals; omega) ?_ List.mem_cons_self ?_
    · intro w hw a' U hW
      rw [List.mem_singleton.mp hw]
      exact word_at hW (lw_self _ hcode).2 (hts _ hcode)
    · exact fun a' U hW => word_at hW (lw_self _ hini).2 (hts _ hini)
  refine xtight2 fun hle => ?_
  intro T hT X
  have h1 := hr.1.1
  have h2 := hr.1.2.1
  have h3 := hC.2.2.2.2.2.2.2.2.2.1
  have h4 := hC.2.2.2.2.2.2.2.2.2.2.1
  have h5 := hS.1
  have h6 := c1.1
  have h7 := c1.2
  have h8 := hl1.1
  have h9 := hl1.2
  obtain ⟨v', vm₁, B, w1, X', ⟨g', mk, t, L, e1, e2, ⟨e3, e4⟩, e5, e6, e7, e8⟩, st'⟩ := row hC X (by rw [hT]; exact hr) (hv.1.trans hC.2.2.2.1.symm) hB (fun vm₁ hW₁ => ⟨by show (H.size - s.heap.size) + (gC G - P.2.1) ≤ R.cells; omega, by show (xsl H - xsl s.heap) + (gS G - P.2.2.1) ≤ R.slots; omega, rfl, State.WarmedH.trans hC.2.2.2.2.2.2.1 hW₁, by show xr G P T.heap; rw [hT]; exact hr⟩)
  have hv' : v' = v := Outcome.returned.inj e3
  subst hv'
  obtain ⟨t', a, b⟩ := g2 hl p e R s m args below meth c hC t.heap B.locs B.cells B.slots ls e4 ⟨by rw [← e1]; exact X'.same.2.1, fun l hl => by
    rw [e5] at hl
    rcases List.mem_append.mp hl with hl | hl
    · exact hS.2 l hl
    · exact e6 l hl⟩ hv B.U e1 X'
  exact ⟨t', st' t' a, b⟩
end CALLS
section CALLROWS
variable {G : xG} {own nm : String} {cc : ByteArray} {nL d pc n : Nat} {ret : Option FieldType} {lv : List (Nat × Value)} {st : List Value} {P : PH} {Kc : Option (xO × PH)}
def xAr (ds : String) (n : Nat) : Bool := match parseMethodDescriptor ds with
  | some sig => sig.parameters.length == n
  | none => false
theorem xAr_of {ds : String} {n : Nat} (h : xAr ds n = true) : ∀ sig, parseMethodDescriptor ds = some sig → n = sig.parameters.length := by
  intro sig hs
  unfold xAr at h
  rw [hs] at h
  exact (beq_iff_eq.mp h).symm
def xnoMH (C : String) : Prop := C ≠ "java/lang/invoke/MethodHandle" ∧ C ≠ "java/lang/invoke/VarHandle"
/-- what is asked of the tables for a method y of n parameters -/
def xMd (y : MethodName) (bytes : ByteArray) (maxL : Nat) (rt : Option FieldType) (n : Nat) : Prop := Cond.code y bytes maxL rt ∈ lw_all ∧ Cond.initialized y.cls ∈ lw_all ∧ maxL ≤ 59 ∧ xAr y.desc n = true ∧ xnoMH y.cls
theorem xcl1_some {α : Type} {P : PH} {a ci : Nat} {K : Option α} {r : α} (h : xcl1 P a ci K = some r) : xco P a = some ci := by
  unfold xcl1 at h
  split at h
  · assumption
  · cases h
/-- what a receiver's class number says -/
theorem xrecvC {G : xG} {P : PH} {H : Heap} {s : State} {a ci : Nat} {r : vw_C} (hr : xr G P H) (hO : xOK G) (hK : xK G s) (hc : xcl[ci]? = some r) (ha : xco P a = some ci) : ∃ cell : Cell, H[a]? = some cell ∧ cell.vm.isStatics = false ∧ s.vm.findClass r.1 = some cell.cls := by
  unfold xco at ha
  split at ha
  · rename_i w c fs hb
    cases ha
    obtain ⟨cell, h1, h2, h3, -⟩ := xrecv hr hK hc hb
    exact ⟨cell, h1, h2, h3⟩
  · split at ha
    · rename_i hx
      cases ha
      rw [hr.1.2.2] at hx
      obtain ⟨cell, h1, h2, h3⟩ := hO.2.2.2.2.2.2.2.2 a hx
      have hlt : a < (g0 G).heap.size := (Array.getElem?_eq_some_iff.mp h1).1
      exact ⟨cell, (hr.2.2.1 a hlt).trans h1, h2, by rw [h3]; exact (hK.1 12 _ hc).1⟩
    · cases ha
theorem xcI_some {σ β : Type} {r : Option (xO × σ)} {K2 : Int32 → σ → Option β} : ∀ z, xcI r K2 = some z → ∃ v P1, r = some (.inr v, P1) := by
  intro z h
  rcases r with _ | ⟨q | v, s⟩
  · cases h
  · cases h
  · exact ⟨v, s, rfl⟩
theorem x_rI {K2 : Int32 → PH → Option (xO × PH)} {rest : List Value} {v : Option Value} {P1 : PH} (e : Kc = some (.inr v, P1)) (hk : ∀ x P1, X G own nm cc nL ret d pc lv (.int x :: rest) P1 (K2 x P1)) : X G own nm cc nL ret d pc lv (v.toList ++ rest) P1 (xcI Kc K2) := by
  subst e
  rcases v with _ | v
  · exact x_no
  · cases v <;> first | exact x_no | exact hk _ _
theorem xcL_some {σ β : Type} {r : Option (xO × σ)} {K2 : Int64 → σ → Option β} : ∀ z, xcL r K2 = some z → ∃ v P1, r = some (.inr v, P1) := by
  intro z h
  rcases r with _ | ⟨q | v, s⟩
  · cases h
  · cases h
  · exact ⟨v, s, rfl⟩
theorem x_rL {K2 : Int64 → PH → Option (xO × PH)} {rest : List Value} {v : Option Value} {P1 : PH} (e : Kc = some (.inr v, P1)) (hk : ∀ x P1, X G own nm cc nL ret d pc lv (.long x :: rest) P1 (K2 x P1)) : X G own nm cc nL ret d pc lv (v.toList ++ rest) P1 (xcL Kc K2) := by
  subst e
  rcases v with _ | v
  · exact x_no
  · cases v <;> first | exact x_no | exact hk _ _
theorem xcR_some {σ β : Type} {r : Option (xO × σ)} {K2 : Option Nat → σ → Option β} : ∀ z, xcR r K2 = some z → ∃ v P1, r = some (.inr v, P1) := by
  intro z h
  rcases r with _ | ⟨q | v, s⟩
  · cases h
  · cases h
  · exact ⟨v, s, rfl⟩
theorem x_rR {K2 : Option Nat → PH → Option (xO × PH)} {rest : List Value} {v : Option Value} {P1 : PH} (e : Kc = some (.inr v, P1)) (hk : ∀ x P1, X G own nm cc nL ret d pc lv (va_rf x :: rest) P1 (K2 x P1)) : X G own nm cc nL ret d pc lv (v.toList ++ rest) P1 (xcR Kc K2) := by
  subst e
  rcases v with _ | v
  · exact x_no
  · cases v <;> first | exact x_no | exact hk (some _) _ | exact hk none _
theorem xcV_some {σ β : Type} {r : Option (xO × σ)} {K2 : σ → Option β} : ∀ z, xcV r K2 = some z → ∃ v P1, r = some (.inr v, P1) := by
  intro z h
  rcases r with _ | ⟨q | v, s⟩
  · cases h
  · cases h
  · exact ⟨v, s, rfl⟩
theorem x_rV {K2 : PH → Option (xO × PH)} {rest : List Value} {v : Option Value} {P1 : PH} (e : Kc = some (.inr v, P1)) (hk : ∀ P1, X G own nm cc nL ret d pc lv rest P1 (K2 P1)) : X G own nm cc nL ret d pc lv (v.toList ++ rest) P1 (xcV Kc K2) := by
  subst e
  rcases v with _ | v
  · exact hk _
  · exact x_no

/-- an interface's method x, at a receiver of class C, is y -/
def xFc (C : String) (x y : MethodName) (n : Nat) : Prop := Cond.declares x ∈ lw_tbl ∧ Cond.interfaceMethod x.cls x.cls x.name x.desc ∈ lw_tbl ∧ Cond.publicMethod y ∈ lw_tbl ∧ Cond.unhidden C x.name x.desc ∈ lw_tbl ∧ Cond.castable C x.cls ∈ lw_tbl ∧ Cond.selects C x y ∈ lw_all ∧ Cond.instanceMethod y ∈ lw_all ∧ xnoMH x.cls ∧ xAr x.desc n = true
theorem x_callV_G {d' maxL n' : Nat} {y : MethodName} {bytes : ByteArray} {rt : Option FieldType} {b index ci : Nat} {r : vw_C} {K : Option (xO × PH)} (As rest : List Value) (hct : CT G d' y bytes maxL rt (.ref b :: As) P Kc) (hrc : ∀ z, Kc = some z → xco P b = some ci) (hmd : xMd y bytes maxL rt n') (hr : xcl[ci]? = some r) (hlink : Cond.methodLink own index y ∈ lw_all) (hin : Cond.instanceMethod y ∈ lw_all) (hsel : Cond.selects r.1 y y ∈ lw_all) (hd : decode cc pc = .ok (.invokevirtual index, 3)) (hAs : As.length = n') (hst : st = As.reverse ++ .ref b :: rest) (hdd : d' < d) (hrest : (rest.map fun v => v.category).sum ≤ 20) (hn : pc + 3 = n) (hK : ∀ r, K = some r → ∃ v P1, Kc = some (.inr v, P1)) (hk : ∀ v P1, Kc = some (.inr v, P1) → X G own nm cc nL ret d n lv (v.toList ++ rest) P1 K) : X G own nm cc nL ret d pc lv st P K := by
  subst hst
  subst hn
  rcases hKz : K with _ | z
  · exact x_no
  rw [← hKz]
  obtain ⟨v0, P0, hKc⟩ := hK z hKz
  have hb := hrc _ hKc
  refine x_calls (len := 3) hct hdd hmd.2.2.1 hmd.1 hmd.2.1 (fun {p e R s m args below meth c} hC {T locs cells slots ls Pre Post} X hr0 hsz hB hpre => ?_) hK hk
  have hts := xok_hts hC
  obtain ⟨cell, h1, h2, h3⟩ := xrecvC hr0 hC.2.2.2.2.2.2.2.2.2.2.2.1 (xok_K hC) hr hb
  exact callV (g := F0 m pc ls _) X hC.1 hC.2.2.2.2.1 (hts _ hlink) (hts _ hin) (hts _ hsel) (hts _ hmd.1) hmd.2.2.2.2 hB h1 h2 h3 rfl hsz (argsL := As) (rest := rest) (fun sig h => hAs.trans (xAr_of hmd.2.2.2.1 sig h)) rfl (by show 2 * 0 + _ ≤ 20; omega) (by rw [hC.2.1]; exact hd) hpre
theorem x_callV_I {d' maxL n' : Nat} {y : MethodName} {bytes : ByteArray} {rt : Option FieldType} {b index ci : Nat} {r : vw_C} {K2 : Int32 → PH → Option (xO × PH)} (As rest : List Value) (hct : CT G d' y bytes maxL rt (.ref b :: As) P Kc) (hrc : ∀ z, Kc = some z → xco P b = some ci) (hmd : xMd y bytes maxL rt n') (hr : xcl[ci]? = some r) (hlink : Cond.methodLink own index y ∈ lw_all) (hin : Cond.instanceMethod y ∈ lw_all) (hsel : Cond.selects r.1 y y ∈ lw_all) (hd : decode cc pc = .ok (.invokevirtual index, 3)) (hAs : As.length = n') (hst : st = As.reverse ++ .ref b :: rest) (hdd : d' < d) (hrest : (rest.map fun v => v.category).sum ≤ 20) (hn : pc + 3 = n) (hk : ∀ x P1, X G own nm cc nL ret d n lv (.int x :: rest) P1 (K2 x P1)) : X G own nm cc nL ret d pc lv st P (xcI Kc K2) :=
  x_callV_G As rest hct hrc hmd hr hlink hin hsel hd hAs hst hdd hrest hn xcI_some (fun v P1 e => x_rI e hk)
theorem x_callV_L {d' maxL n' : Nat} {y : MethodName} {bytes : ByteArray} {rt : Option FieldType} {b index ci : Nat} {r : vw_C} {K2 : Int64 → PH → Option (xO × PH)} (As rest : List Value) (hct : CT G d' y bytes maxL rt (.ref b :: As) P Kc) (hrc : ∀ z, Kc = some z → xco P b = some ci) (hmd : xMd y bytes maxL rt n') (hr : xcl[ci]? = some r) (hlink : Cond.methodLink own index y ∈ lw_all) (hin : Cond.instanceMethod y ∈ lw_all) (hsel : Cond.selects r.1 y y ∈ lw_all) (hd : decode cc pc = .ok (.invokevirtual index, 3)) (hAs : As.length = n') (hst : st = As.reverse ++ .ref b :: rest) (hdd : d' < d) (hrest : (rest.map fun v => v.category).sum ≤ 20) (hn : pc + 3 = n) (hk : ∀ x P1, X G own nm cc nL ret d n lv (.long x :: rest) P1 (K2 x P1)) : X G own nm cc nL ret d pc lv st P (xcL Kc K2) :=
  x_callV_G As rest hct hrc hmd hr hlink hin hsel hd hAs hst hdd hrest hn xcL_some (fun v P1 e => x_rL e hk)
theorem x_callV_R {d' maxL n' : Nat} {y : MethodName} {bytes : ByteArray} {rt : Option FieldType} {b index ci : Nat} {r : vw_C} {K2 : Option Nat → PH → Option (xO × PH)} (As rest : List Value) (hct : CT G d' y bytes maxL rt (.ref b :: As) P Kc) (hrc : ∀ z, Kc = some z → xco P b = some ci) (hmd : xMd y bytes maxL rt n') (hr : xcl[ci]? = some r) (hlink : Cond.methodLink own index y ∈ lw_all) (hin : Cond.instanceMethod y ∈ lw_all) (hsel : Cond.selects r.1 y y ∈ lw_all) (hd : decode cc pc = .ok (.invokevirtual index, 3)) (hAs : As.length = n') (hst : st = As.reverse ++ .ref b :: rest) (hdd : d' < d) (hrest : (rest.map fun v => v.category).sum ≤ 20) (hn : pc + 3 = n) (hk : ∀ x P1, X G own nm cc nL ret d n lv (va_rf x :: rest) P1 (K2 x P1)) : X G own nm cc nL ret d pc lv st P (xcR Kc K2) :=
  x_callV_G As rest hct hrc hmd hr hlink hin hsel hd hAs hst hdd hrest hn xcR_some (fun v P1 e => x_rR e hk)
theorem x_callV_V {d' maxL n' : Nat} {y : MethodName} {bytes : ByteArray} {rt : Option FieldType} {b index ci : Nat} {r : vw_C} {K2 : PH → Option (xO × PH)} (As rest : List Value) (hct : CT G d' y bytes maxL rt (.ref b :: As) P Kc) (hrc : ∀ z, Kc = some z → xco P b = some ci) (hmd : xMd y bytes maxL rt n') (hr : xcl[ci]? = some r) (hlink : Cond.methodLink own index y ∈ lw_all) (hin : Cond.instanceMethod y ∈ lw_all) (hsel : Cond.selects r.1 y y ∈ lw_all) (hd : decode cc pc = .ok (.invokevirtual index, 3)) (hAs : As.length = n') (hst : st = As.reverse ++ .ref b :: rest) (hdd : d' < d) (hrest : (rest.map fun v => v.category).sum ≤ 20) (hn : pc + 3 = n) (hk : ∀ P1, X G own nm cc nL ret d n lv rest P1 (K2 P1)) : X G own nm cc nL ret d pc lv st P (xcV Kc K2) :=
  x_callV_G As rest hct hrc hmd hr hlink hin hsel hd hAs hst hdd hrest hn xcV_some (fun v P1 e => x_rV e hk)
theorem x_callS_G {d' maxL n' : Nat} {y : MethodName} {bytes : ByteArray} {rt : Option FieldType} {index : Nat} {K : Option (xO × PH)} (As rest : List Value) (hct : CT G d' y bytes maxL rt As P Kc) (hmd : xMd y bytes maxL rt n') (hlink : Cond.methodLink own index y ∈ lw_all) (hin : Cond.static y ∈ lw_all) (hd : decode cc pc = .ok (.invokestatic index, 3)) (hAs : As.length = n') (hst : st = As.reverse ++ rest) (hdd : d' < d) (hrest : (rest.map fun v => v.category).sum ≤ 20) (hn : pc + 3 = n) (hK : ∀ r, K = some r → ∃ v P1, Kc = some (.inr v, P1)) (hk : ∀ v P1, Kc = some (.inr v, P1) → X G own nm cc nL ret d n lv (v.toList ++ rest) P1 K) : X G own nm cc nL ret d pc lv st P K := by
  subst hst
  subst hn
  refine x_calls (len := 3) hct hdd hmd.2.2.1 hmd.1 hmd.2.1 (fun {p e R s m args below meth c} hC {T locs cells slots ls Pre Post} X hr0 hsz hB hpre => ?_) hK hk
  have hts := xok_hts hC
  exact callS (g := F0 m pc ls _) X hC.1 hC.2.2.2.2.1 (hts _ hlink) (hts _ hin) (hts _ hmd.2.1) (hts _ hmd.1) hmd.2.2.2.2 hB rfl hsz (argsL := As) (rest := rest) (fun sig h => hAs.trans (xAr_of hmd.2.2.2.1 sig h)) rfl (by show 2 * 0 + _ ≤ 20; omega) (by rw [hC.2.1]; exact hd) hpre
theorem x_callS_I {d' maxL n' : Nat} {y : MethodName} {bytes : ByteArray} {rt : Option FieldType} {index : Nat} {K2 : Int32 → PH → Option (xO × PH)} (As rest : List Value) (hct : CT G d' y bytes maxL rt As P Kc) (hmd : xMd y bytes maxL rt n') (hlink : Cond.methodLink own index y ∈ lw_all) (hin : Cond.static y ∈ lw_all) (hd : decode cc pc = .ok (.invokestatic index, 3)) (hAs : As.length = n') (hst : st = As.reverse ++ rest) (hdd : d' < d) (hrest : (rest.map fun v => v.category).sum ≤ 20) (hn : pc + 3 = n) (hk : ∀ x P1, X G own nm cc nL ret d n lv (.int x :: rest) P1 (K2 x P1)) : X G own nm cc nL ret d pc lv st P (xcI Kc K2) :=
  x_callS_G As rest hct hmd hlink hin hd hAs hst hdd hrest hn xcI_some (fun v P1 e => x_rI e hk)
theorem x_callS_L {d' maxL n' : Nat} {y : MethodName} {bytes : ByteArray} {rt : Option FieldType} {index : Nat} {K2 : Int64 → PH → Option (xO × PH)} (As rest : List Value) (hct : CT G d' y bytes maxL rt As P Kc) (hmd : xMd y bytes maxL rt n') (hlink : Cond.methodLink own index y ∈ lw_all) (hin : Cond.static y ∈ lw_all) (hd : decode cc pc = .ok (.invokestatic index, 3)) (hAs : As.length = n') (hst : st = As.reverse ++ rest) (hdd : d' < d) (hrest : (rest.map fun v => v.category).sum ≤ 20) (hn : pc + 3 = n) (hk : ∀ x P1, X G own nm cc nL ret d n lv (.long x :: rest) P1 (K2 x P1)) : X G own nm cc nL ret d pc lv st P (xcL Kc K2) :=
  x_callS_G As rest hct hmd hlink hin hd hAs hst hdd hrest hn xcL_some (fun v P1 e => x_rL e hk)
theorem x_callS_R {d' maxL n' : Nat} {y : MethodName} {bytes : ByteArray} {rt : Option FieldType} {index : Nat} {K2 : Option Nat → PH → Option (xO × PH)} (As rest : List Value) (hct : CT G d' y bytes maxL rt As P Kc) (hmd : xMd y bytes maxL rt n') (hlink : Cond.methodLink own index y ∈ lw_all) (hin : Cond.static y ∈ lw_all) (hd : decode cc pc = .ok (.invokestatic index, 3)) (hAs : As.length = n') (hst : st = As.reverse ++ rest) (hdd : d' < d) (hrest : (rest.map fun v => v.category).sum ≤ 20) (hn : pc + 3 = n) (hk : ∀ x P1, X G own nm cc nL ret d n lv (va_rf x :: rest) P1 (K2 x P1)) : X G own nm cc nL ret d pc lv st P (xcR Kc K2) :=
  x_callS_G As rest hct hmd hlink hin hd hAs hst hdd hrest hn xcR_some (fun v P1 e => x_rR e hk)
theorem x_callS_V {d' maxL n' : Nat} {y : MethodName} {bytes : ByteArray} {rt : Option FieldType} {index : Nat} {K2 : PH → Option (xO × PH)} (As rest : List Value) (hct : CT G d' y bytes maxL rt As P Kc) (hmd : xMd y bytes maxL rt n') (hlink : Cond.methodLink own index y ∈ lw_all) (hin : Cond.static y ∈ lw_all) (hd : decode cc pc = .ok (.invokestatic index, 3)) (hAs : As.length = n') (hst : st = As.reverse ++ rest) (hdd : d' < d) (hrest : (rest.map fun v => v.category).sum ≤ 20) (hn : pc + 3 = n) (hk : ∀ P1, X G own nm cc nL ret d n lv rest P1 (K2 P1)) : X G own nm cc nL ret d pc lv st P (xcV Kc K2) :=
  x_callS_G As rest hct hmd hlink hin hd hAs hst hdd hrest hn xcV_some (fun v P1 e => x_rV e hk)
theorem x_callSN_G {d' maxL n' : Nat} {y : MethodName} {bytes : ByteArray} {rt : Option FieldType} {index : Nat} {host : String} {K : Option (xO × PH)} (As rest : List Value) (hct : CT G d' y bytes maxL rt As P Kc) (hmd : xMd y bytes maxL rt n') (hlink : Cond.methodLinkNest own index y host ∈ lw_tbl) (hin : Cond.static y ∈ lw_all) (hd : decode cc pc = .ok (.invokestatic index, 3)) (hAs : As.length = n') (hst : st = As.reverse ++ rest) (hdd : d' < d) (hrest : (rest.map fun v => v.category).sum ≤ 20) (hn : pc + 3 = n) (hK : ∀ r, K = some r → ∃ v P1, Kc = some (.inr v, P1)) (hk : ∀ v P1, Kc = some (.inr v, P1) → X G own nm cc nL ret d n lv (v.toList ++ rest) P1 K) : X G own nm cc nL ret d pc lv st P K := by
  subst hst
  subst hn
  refine x_calls (len := 3) hct hdd hmd.2.2.1 hmd.1 hmd.2.1 (fun {p e R s m args below meth c} hC {T locs cells slots ls Pre Post} X hr0 hsz hB hpre => ?_) hK hk
  have hts := xok_hts hC
  obtain ⟨⟨A, hA⟩, -⟩ := hC.2.2.2.2.2.2.2.2.2.2.2.1
  exact va_callSN (g := F0 m pc ls _) X hC.1 hC.2.2.2.2.1 (va_Nw.use rfl (va_Nw.warmM hC.2.2.2.2.2.2.1 (va_Nw.of rfl (hA _ hlink)))) (hts _ hin) (hts _ hmd.2.1) (hts _ hmd.1) hmd.2.2.2.2 hB rfl hsz (argsL := As) (rest := rest) (fun sig h => hAs.trans (xAr_of hmd.2.2.2.1 sig h)) rfl (by show 2 * 0 + _ ≤ 20; omega) (by rw [hC.2.1]; exact hd) hpre
theorem x_callSN_I {d' maxL n' : Nat} {y : MethodName} {bytes : ByteArray} {rt : Option FieldType} {index : Nat} {host : String} {K2 : Int32 → PH → Option (xO × PH)} (As rest : List Value) (hct : CT G d' y bytes maxL rt As P Kc) (hmd : xMd y bytes maxL rt n') (hlink : Cond.methodLinkNest own index y host ∈ lw_tbl) (hin : Cond.static y ∈ lw_all) (hd : decode cc pc = .ok (.invokestatic index, 3)) (hAs : As.length = n') (hst : st = As.reverse ++ rest) (hdd : d' < d) (hrest : (rest.map fun v => v.category).sum ≤ 20) (hn : pc + 3 = n) (hk : ∀ x P1, X G own nm cc nL ret d n lv (.int x :: rest) P1 (K2 x P1)) : X G own nm cc nL ret d pc lv st P (xcI Kc K2) :=
  x_callSN_G As rest hct hmd hlink hin hd hAs hst hdd hrest hn xcI_some (fun v P1 e => x_rI e hk)
theorem x_callSN_L {d' maxL n' : Nat} {y : MethodName} {bytes : ByteArray} {rt : Option FieldType} {index : Nat} {host : String} {K2 : Int64 → PH → Option (xO × PH)} (As rest : List Value) (hct : CT G d' y bytes maxL rt As P Kc) (hmd : xMd y bytes maxL rt n') (hlink : Cond.methodLinkNest own index y host ∈ lw_tbl) (hin : Cond.static y ∈ lw_all) (hd : decode cc pc = .ok (.invokestatic index, 3)) (hAs : As.length = n') (hst : st = As.reverse ++ rest) (hdd : d' < d) (hrest : (rest.map fun v => v.category).sum ≤ 20) (hn : pc + 3 = n) (hk : ∀ x P1, X G own nm cc nL ret d n lv (.long x :: rest) P1 (K2 x P1)) : X G own nm cc nL ret d pc lv st P (xcL Kc K2) :=
  x_callSN_G As rest hct hmd hlink hin hd hAs hst hdd hrest hn xcL_some (fun v P1 e => x_rL e hk)
theorem x_callSN_R {d' maxL n' : Nat} {y : MethodName} {bytes : ByteArray} {rt : Option FieldType} {index : Nat} {host : String} {K2 : Option Nat → PH → Option (xO × PH)} (As rest : List Value) (hct : CT G d' y bytes maxL rt As P Kc) (hmd : xMd y bytes maxL rt n') (hlink : Cond.methodLinkNest own index y host ∈ lw_tbl) (hin : Cond.static y ∈ lw_all) (hd : decode cc pc = .ok (.invokestatic index, 3)) (hAs : As.length = n') (hst : st = As.reverse ++ rest) (hdd : d' < d) (hrest : (rest.map fun v => v.category).sum ≤ 20) (hn : pc + 3 = n) (hk : ∀ x P1, X G own nm cc nL ret d n lv (va_rf x :: rest) P1 (K2 x P1)) : X G own nm cc nL ret d pc lv st P (xcR Kc K2) :=
  x_callSN_G As rest hct hmd hlink hin hd hAs hst hdd hrest hn xcR_some (fun v P1 e => x_rR e hk)
theorem x_callSN_V {d' maxL n' : Nat} {y : MethodName} {bytes : ByteArray} {rt : Option FieldType} {index : Nat} {host : String} {K2 : PH → Option (xO × PH)} (As rest : List Value) (hct : CT G d' y bytes maxL rt As P Kc) (hmd : xMd y bytes maxL rt n') (hlink : Cond.methodLinkNest own index y host ∈ lw_tbl) (hin : Cond.static y ∈ lw_all) (hd : decode cc pc = .ok (.invokestatic index, 3)) (hAs : As.length = n') (hst : st = As.reverse ++ rest) (hdd : d' < d) (hrest : (rest.map fun v => v.category).sum ≤ 20) (hn : pc + 3 = n) (hk : ∀ P1, X G own nm cc nL ret d n lv rest P1 (K2 P1)) : X G own nm cc nL ret d pc lv st P (xcV Kc K2) :=
  x_callSN_G As rest hct hmd hlink hin hd hAs hst hdd hrest hn xcV_some (fun v P1 e => x_rV e hk)
theorem x_callVN_G {d' maxL n' : Nat} {y : MethodName} {bytes : ByteArray} {rt : Option FieldType} {b index ci : Nat} {r : vw_C} {host : String} {K : Option (xO × PH)} (As rest : List Value) (hct : CT G d' y bytes maxL rt (.ref b :: As) P Kc) (hrc : ∀ z, Kc = some z → xco P b = some ci) (hmd : xMd y bytes maxL rt n') (hr : xcl[ci]? = some r) (hlink : Cond.methodLinkNest own index y host ∈ lw_tbl) (hin : Cond.instanceMethod y ∈ lw_all) (hsel : Cond.selects r.1 y y ∈ lw_all) (hd : decode cc pc = .ok (.invokevirtual index, 3)) (hAs : As.length = n') (hst : st = As.reverse ++ .ref b :: rest) (hdd : d' < d) (hrest : (rest.map fun v => v.category).sum ≤ 20) (hn : pc + 3 = n) (hK : ∀ r, K = some r → ∃ v P1, Kc = some (.inr v, P1)) (hk : ∀ v P1, Kc = some (.inr v, P1) → X G own nm cc nL ret d n lv (v.toList ++ rest) P1 K) : X G own nm cc nL ret d pc lv st P K := by
  subst hst
  subst hn
  rcases hKz : K with _ | z
  · exact x_no
  rw [← hKz]
  obtain ⟨v0, P0, hKc⟩ := hK z hKz
  have hb := hrc _ hKc
  refine x_calls (len := 3) hct hdd hmd.2.2.1 hmd.1 hmd.2.1 (fun {p e R s m args below meth c} hC {T locs cells slots ls Pre Post} X hr0 hsz hB hpre => ?_) hK hk
  have hts := xok_hts hC
  obtain ⟨cell, h1, h2, h3⟩ := xrecvC hr0 hC.2.2.2.2.2.2.2.2.2.2.2.1 (xok_K hC) hr hb
  obtain ⟨⟨A, hA⟩, -⟩ := hC.2.2.2.2.2.2.2.2.2.2.2.1
  exact va_callVN (g := F0 m pc ls _) X hC.1 hC.2.2.2.2.1 (va_Nw.use rfl (va_Nw.warmM hC.2.2.2.2.2.2.1 (va_Nw.of rfl (hA _ hlink)))) (hts _ hin) (hts _ hsel) (hts _ hmd.1) hmd.2.2.2.2 hB h1 h2 h3 rfl hsz (argsL := As) (rest := rest) (fun sig h => hAs.trans (xAr_of hmd.2.2.2.1 sig h)) rfl (by show 2 * 0 + _ ≤ 20; omega) (by rw [hC.2.1]; exact hd) hpre
theorem x_callVN_I {d' maxL n' : Nat} {y : MethodName} {bytes : ByteArray} {rt : Option FieldType} {b index ci : Nat} {r : vw_C} {host : String} {K2 : Int32 → PH → Option (xO × PH)} (As rest : List Value) (hct : CT G d' y bytes maxL rt (.ref b :: As) P Kc) (hrc : ∀ z, Kc = some z → xco P b = some ci) (hmd : xMd y bytes maxL rt n') (hr : xcl[ci]? = some r) (hlink : Cond.methodLinkNest own index y host ∈ lw_tbl) (hin : Cond.instanceMethod y ∈ lw_all) (hsel : Cond.selects r.1 y y ∈ lw_all) (hd : decode cc pc = .ok (.invokevirtual index, 3)) (hAs : As.length = n') (hst : st = As.reverse ++ .ref b :: rest) (hdd : d' < d) (hrest : (rest.map fun v => v.category).sum ≤ 20) (hn : pc + 3 = n) (hk : ∀ x P1, X G own nm cc nL ret d n lv (.int x :: rest) P1 (K2 x P1)) : X G own nm cc nL ret d pc lv st P (xcI Kc K2) :=
  x_callVN_G As rest hct hrc hmd hr hlink hin hsel hd hAs hst hdd hrest hn xcI_some (fun v P1 e => x_rI e hk)
theorem x_callVN_L {d' maxL n' : Nat} {y : MethodName} {bytes : ByteArray} {rt : Option FieldType} {b index ci : Nat} {r : vw_C} {host : String} {K2 : Int64 → PH → Option (xO × PH)} (As rest : List Value) (hct : CT G d' y bytes maxL rt (.ref b :: As) P Kc) (hrc : ∀ z, Kc = some z → xco P b = some ci) (hmd : xMd y bytes maxL rt n') (hr : xcl[ci]? = some r) (hlink : Cond.methodLinkNest own index y host ∈ lw_tbl) (hin : Cond.instanceMethod y ∈ lw_all) (hsel : Cond.selects r.1 y y ∈ lw_all) (hd : decode cc pc = .ok (.invokevirtual index, 3)) (hAs : As.length = n') (hst : st = As.reverse ++ .ref b :: rest) (hdd : d' < d) (hrest : (rest.map fun v => v.category).sum ≤ 20) (hn : pc + 3 = n) (hk : ∀ x P1, X G own nm cc nL ret d n lv (.long x :: rest) P1 (K2 x P1)) : X G own nm cc nL ret d pc lv st P (xcL Kc K2) :=
  x_callVN_G As rest hct hrc hmd hr hlink hin hsel hd hAs hst hdd hrest hn xcL_some (fun v P1 e => x_rL e hk)
theorem x_callVN_R {d' maxL n' : Nat} {y : MethodName} {bytes : ByteArray} {rt : Option FieldType} {b index ci : Nat} {r : vw_C} {host : String} {K2 : Option Nat → PH → Option (xO × PH)} (As rest : List Value) (hct : CT G d' y bytes maxL rt (.ref b :: As) P Kc) (hrc : ∀ z, Kc = some z → xco P b = some ci) (hmd : xMd y bytes maxL rt n') (hr : xcl[ci]? = some r) (hlink : Cond.methodLinkNest own index y host ∈ lw_tbl) (hin : Cond.instanceMethod y ∈ lw_all) (hsel : Cond.selects r.1 y y ∈ lw_all) (hd : decode cc pc = .ok (.invokevirtual index, 3)) (hAs : As.length = n') (hst : st = As.reverse ++ .ref b :: rest) (hdd : d' < d) (hrest : (rest.map fun v => v.category).sum ≤ 20) (hn : pc + 3 = n) (hk : ∀ x P1, X G own nm cc nL ret d n lv (va_rf x :: rest) P1 (K2 x P1)) : X G own nm cc nL ret d pc lv st P (xcR Kc K2) :=
  x_callVN_G As rest hct hrc hmd hr hlink hin hsel hd hAs hst hdd hrest hn xcR_some (fun v P1 e => x_rR e hk)
theorem x_callVN_V {d' maxL n' : Nat} {y : MethodName} {bytes : ByteArray} {rt : Option FieldType} {b index ci : Nat} {r : vw_C} {host : String} {K2 : PH → Option (xO × PH)} (As rest : List Value) (hct : CT G d' y bytes maxL rt (.ref b :: As) P Kc) (hrc : ∀ z, Kc = some z → xco P b = some ci) (hmd : xMd y bytes maxL rt n') (hr : xcl[ci]? = some r) (hlink : Cond.methodLinkNest own index y host ∈ lw_tbl) (hin : Cond.instanceMethod y ∈ lw_all) (hsel : Cond.selects r.1 y y ∈ lw_all) (hd : decode cc pc = .ok (.invokevirtual index, 3)) (hAs : As.length = n') (hst : st = As.reverse ++ .ref b :: rest) (hdd : d' < d) (hrest : (rest.map fun v => v.category).sum ≤ 20) (hn : pc + 3 = n) (hk : ∀ P1, X G own nm cc nL ret d n lv rest P1 (K2 P1)) : X G own nm cc nL ret d pc lv st P (xcV Kc K2) :=
  x_callVN_G As rest hct hrc hmd hr hlink hin hsel hd hAs hst hdd hrest hn xcV_some (fun v P1 e => x_rV e hk)
theorem x_callF_G {d' maxL n' : Nat} {y : MethodName} {bytes : ByteArray} {rt : Option FieldType} {b index ci count : Nat} {r : vw_C} {x : MethodName} {K : Option (xO × PH)} (As rest : List Value) (hct : CT G d' y bytes maxL rt (.ref b :: As) P Kc) (hrc : ∀ z, Kc = some z → xco P b = some ci) (hmd : xMd y bytes maxL rt n') (hr : xcl[ci]? = some r) (hlink : Cond.methodLink own index x ∈ lw_all) (hf : xFc r.1 x y n') (hd : decode cc pc = .ok (.invokeinterface index count, 5)) (hAs : As.length = n') (hst : st = As.reverse ++ .ref b :: rest) (hdd : d' < d) (hrest : (rest.map fun v => v.category).sum ≤ 20) (hn : pc + 5 = n) (hK : ∀ r, K = some r → ∃ v P1, Kc = some (.inr v, P1)) (hk : ∀ v P1, Kc = some (.inr v, P1) → X G own nm cc nL ret d n lv (v.toList ++ rest) P1 K) : X G own nm cc nL ret d pc lv st P K := by
  subst hst
  subst hn
  rcases hKz : K with _ | z
  · exact x_no
  rw [← hKz]
  obtain ⟨v0, P0, hKc⟩ := hK z hKz
  have hb := hrc _ hKc
  refine x_calls (len := 5) hct hdd hmd.2.2.1 hmd.1 hmd.2.1 (fun {p e R s m args below meth c} hC {T locs cells slots ls Pre Post} X hr0 hsz hB hpre => ?_) hK hk
  have hts := xok_hts hC
  obtain ⟨cell, h1, h2, h3⟩ := xrecvC hr0 hC.2.2.2.2.2.2.2.2.2.2.2.1 (xok_K hC) hr hb
  obtain ⟨⟨A, hA⟩, -⟩ := hC.2.2.2.2.2.2.2.2.2.2.2.1
  obtain ⟨f1, f2, f3, f4, f5, f6, f7, f8, f9⟩ := hf
  obtain ⟨w1, w2, w3, w4, w5⟩ := (va_Fw.of (hA _ f1) (hA _ f2) (hA _ f3) (hA _ f4) (hA _ f5)).moved f8 hC.2.2.2.2.2.2.1.alike
  obtain ⟨kB, hkB, -⟩ := Vm.findClass_spec h3
  exact va_callIF (g := F0 m pc ls _) X hC.1 hC.2.2.2.2.1 (hts _ hlink) (va_any rfl w1) (va_any rfl w2) (hts _ f6) (hts _ f7) (va_any rfl w3) (va_any rfl w4) (va_any rfl w5) (hts _ hmd.1) f8 hB h1 h2 h3 hkB rfl hsz (argsL := As) (rest := rest) (fun sig h => hAs.trans (xAr_of f9 sig h)) rfl (by show 2 * 0 + _ ≤ 20; omega) (by rw [hC.2.1]; exact hd) hpre
theorem x_callF_I {d' maxL n' : Nat} {y : MethodName} {bytes : ByteArray} {rt : Option FieldType} {b index ci count : Nat} {r : vw_C} {x : MethodName} {K2 : Int32 → PH → Option (xO × PH)} (As rest : List Value) (hct : CT G d' y bytes maxL rt (.ref b :: As) P Kc) (hrc : ∀ z, Kc = some z → xco P b = some ci) (hmd : xMd y bytes maxL rt n') (hr : xcl[ci]? = some r) (hlink : Cond.methodLink own index x ∈ lw_all) (hf : xFc r.1 x y n') (hd : decode cc pc = .ok (.invokeinterface index count, 5)) (hAs : As.length = n') (hst : st = As.reverse ++ .ref b :: rest) (hdd : d' < d) (hrest : (rest.map fun v => v.category).sum ≤ 20) (hn : pc + 5 = n) (hk : ∀ x P1, X G own nm cc nL ret d n lv (.int x :: rest) P1 (K2 x P1)) : X G own nm cc nL ret d pc lv st P (xcI Kc K2) :=
  x_callF_G As rest hct hrc hmd hr hlink hf hd hAs hst hdd hrest hn xcI_some (fun v P1 e => x_rI e hk)
theorem x_callF_L {d' maxL n' : Nat} {y : MethodName} {bytes : ByteArray} {rt : Option FieldType} {b index ci count : Nat} {r : vw_C} {x : MethodName} {K2 : Int64 → PH → Option (xO × PH)} (As rest : List Value) (hct : CT G d' y bytes maxL rt (.ref b :: As) P Kc) (hrc : ∀ z, Kc = some z → xco P b = some ci) (hmd : xMd y bytes maxL rt n') (hr : xcl[ci]? = some r) (hlink : Cond.methodLink own index x ∈ lw_all) (hf : xFc r.1 x y n') (hd : decode cc pc = .ok (.invokeinterface index count, 5)) (hAs : As.length = n') (hst : st = As.reverse ++ .ref b :: rest) (hdd : d' < d) (hrest : (rest.map fun v => v.category).sum ≤ 20) (hn : pc + 5 = n) (hk : ∀ x P1, X G own nm cc nL ret d n lv (.long x :: rest) P1 (K2 x P1)) : X G own nm cc nL ret d pc lv st P (xcL Kc K2) :=
  x_callF_G As rest hct hrc hmd hr hlink hf hd hAs hst hdd hrest hn xcL_some (fun v P1 e => x_rL e hk)
theorem x_callF_R {d' maxL n' : Nat} {y : MethodName} {bytes : ByteArray} {rt : Option FieldType} {b index ci count : Nat} {r : vw_C} {x : MethodName} {K2 : Option Nat → PH → Option (xO × PH)} (As rest : List Value) (hct : CT G d' y bytes maxL rt (.ref b :: As) P Kc) (hrc : ∀ z, Kc = some z → xco P b = some ci) (hmd : xMd y bytes maxL rt n') (hr : xcl[ci]? = some r) (hlink : Cond.methodLink own index x ∈ lw_all) (hf : xFc r.1 x y n') (hd : decode cc pc = .ok (.invokeinterface index count, 5)) (hAs : As.length = n') (hst : st = As.reverse ++ .ref b :: rest) (hdd : d' < d) (hrest : (rest.map fun v => v.category).sum ≤ 20) (hn : pc + 5 = n) (hk : ∀ x P1, X G own nm cc nL ret d n lv (va_rf x :: rest) P1 (K2 x P1)) : X G own nm cc nL ret d pc lv st P (xcR Kc K2) :=
  x_callF_G As rest hct hrc hmd hr hlink hf hd hAs hst hdd hrest hn xcR_some (fun v P1 e => x_rR e hk)
theorem x_callF_V {d' maxL n' : Nat} {y : MethodName} {bytes : ByteArray} {rt : Option FieldType} {b index ci count : Nat} {r : vw_C} {x : MethodName} {K2 : PH → Option (xO × PH)} (As rest : List Value) (hct : CT G d' y bytes maxL rt (.ref b :: As) P Kc) (hrc : ∀ z, Kc = some z → xco P b = some ci) (hmd : xMd y bytes maxL rt n') (hr : xcl[ci]? = some r) (hlink : Cond.methodLink own index x ∈ lw_all) (hf : xFc r.1 x y n') (hd : decode cc pc = .ok (.invokeinterface index count, 5)) (hAs : As.length = n') (hst : st = As.reverse ++ .ref b :: rest) (hdd : d' < d) (hrest : (rest.map fun v => v.category).sum ≤ 20) (hn : pc + 5 = n) (hk : ∀ P1, X G own nm cc nL ret d n lv rest P1 (K2 P1)) : X G own nm cc nL ret d pc lv st P (xcV Kc K2) :=
  x_callF_G As rest hct hrc hmd hr hlink hf hd hAs hst hdd hrest hn xcV_some (fun v P1 e => x_rV e hk)
theorem x_callI_G {d' maxL n' : Nat} {y : MethodName} {bytes : ByteArray} {a index : Nat} {K : Option (xO × PH)} (As rest : List Value) (hct : CT G d' y bytes maxL none (.ref a :: As) P Kc) (hmd : xMd y bytes maxL none n') (hy : y.name = "<init>") (hlink : Cond.methodLink own index y ∈ lw_all) (hin : Cond.instanceMethod y ∈ lw_all) (hd : decode cc pc = .ok (.invokespecial index, 3)) (hAs : As.length = n') (hst : st = As.reverse ++ .ref a :: rest) (hdd : d' < d) (hrest : (rest.map fun v => v.category).sum ≤ 20) (hn : pc + 3 = n) (hK : ∀ r, K = some r → ∃ v P1, Kc = some (.inr v, P1)) (hk : ∀ v P1, Kc = some (.inr v, P1) → X G own nm cc nL ret d n lv (v.toList ++ rest) P1 K) : X G own nm cc nL ret d pc lv st P K := by
  subst hst
  subst hn
  refine x_calls (len := 3) hct hdd hmd.2.2.1 hmd.1 hmd.2.1 (fun {p e R s m args below meth c} hC {T locs cells slots ls Pre Post} X hr0 hsz hB hpre => ?_) hK hk
  have hts := xok_hts hC
  exact callI (g := F0 m pc ls _) X hC.1 hC.2.2.2.2.1 hy (hts _ hlink) (hts _ hin) (hts _ hmd.1) hmd.2.2.2.2 hB rfl hsz (argsL := As) (rest := rest) (fun sig h => hAs.trans (xAr_of hmd.2.2.2.1 sig h)) rfl (by show 2 * 0 + _ ≤ 20; omega) (by rw [hC.2.1]; exact hd) hpre
theorem x_callI_V {d' maxL n' : Nat} {y : MethodName} {bytes : ByteArray} {a index : Nat} {K2 : PH → Option (xO × PH)} (As rest : List Value) (hct : CT G d' y bytes maxL none (.ref a :: As) P Kc) (hmd : xMd y bytes maxL none n') (hy : y.name = "<init>") (hlink : Cond.methodLink own index y ∈ lw_all) (hin : Cond.instanceMethod y ∈ lw_all) (hd : decode cc pc = .ok (.invokespecial index, 3)) (hAs : As.length = n') (hst : st = As.reverse ++ .ref a :: rest) (hdd : d' < d) (hrest : (rest.map fun v => v.category).sum ≤ 20) (hn : pc + 3 = n) (hk : ∀ P1, X G own nm cc nL ret d n lv rest P1 (K2 P1)) : X G own nm cc nL ret d pc lv st P (xcV Kc K2) :=
  x_callI_G As rest hct hmd hy hlink hin hd hAs hst hdd hrest hn xcV_some (fun v P1 e => x_rV e hk)
theorem x_callIN_G {d' maxL n' : Nat} {y : MethodName} {bytes : ByteArray} {a index : Nat} {host : String} {K : Option (xO × PH)} (As rest : List Value) (hct : CT G d' y bytes maxL none (.ref a :: As) P Kc) (hmd : xMd y bytes maxL none n') (hy : y.name = "<init>") (hlink : Cond.methodLinkNest own index y host ∈ lw_tbl) (hin : Cond.instanceMethod y ∈ lw_all) (hd : decode cc pc = .ok (.invokespecial index, 3)) (hAs : As.length = n') (hst : st = As.reverse ++ .ref a :: rest) (hdd : d' < d) (hrest : (rest.map fun v => v.category).sum ≤ 20) (hn : pc + 3 = n) (hK : ∀ r, K = some r → ∃ v P1, Kc = some (.inr v, P1)) (hk : ∀ v P1, Kc = some (.inr v, P1) → X G own nm cc nL ret d n lv (v.toList ++ rest) P1 K) : X G own nm cc nL ret d pc lv st P K := by
  subst hst
  subst hn
  refine x_calls (len := 3) hct hdd hmd.2.2.1 hmd.1 hmd.2.1 (fun {p e R s m args below meth c} hC {T locs cells slots ls Pre Post} X hr0 hsz hB hpre => ?_) hK hk
  have hts := xok_hts hC
  obtain ⟨⟨A, hA⟩, -⟩ := hC.2.2.2.2.2.2.2.2.2.2.2.1
  exact va_callIN (g := F0 m pc ls _) X hC.1 hC.2.2.2.2.1 hy (va_Nw.use rfl (va_Nw.warmM hC.2.2.2.2.2.2.1 (va_Nw.of rfl (hA _ hlink)))) (hts _ hin) (hts _ hmd.1) hmd.2.2.2.2 hB rfl hsz (argsL := As) (rest := rest) (fun sig h => hAs.trans (xAr_of hmd.2.2.2.1 sig h)) rfl (by show 2 * 0 + _ ≤ 20; omega) (by rw [hC.2.1]; exact hd) hpre
theorem x_callIN_V {d' maxL n' : Nat} {y : MethodName} {bytes : ByteArray} {a index : Nat} {host : String} {K2 : PH → Option (xO × PH)} (As rest : List Value) (hct : CT G d' y bytes maxL none (.ref a :: As) P Kc) (hmd : xMd y bytes maxL none n') (hy : y.name = "<init>") (hlink : Cond.methodLinkNest own index y host ∈ lw_tbl) (hin : Cond.instanceMethod y ∈ lw_all) (hd : decode cc pc = .ok (.invokespecial index, 3)) (hAs : As.length = n') (hst : st = As.reverse ++ .ref a :: rest) (hdd : d' < d) (hrest : (rest.map fun v => v.category).sum ≤ 20) (hn : pc + 3 = n) (hk : ∀ P1, X G own nm cc nL ret d n lv rest P1 (K2 P1)) : X G own nm cc nL ret d pc lv st P (xcV Kc K2) :=
  x_callIN_G As rest hct hmd hy hlink hin hd hAs hst hdd hrest hn xcV_some (fun v P1 e => x_rV e hk)
end CALLROWS
/-! tableswitch -/
def xtab {α : Type} (x : Int32) (lo : Int) (ks : List α) (kd : α) : α := if x.toInt < lo ∨ lo + ks.length ≤ x.toInt then kd else ks.getD (x.toInt - lo).toNat kd
def xAll {α : Type} (W : Nat → α → Prop) : List Nat → List α → Prop
  | t :: ts, k :: ks => W t k ∧ xAll W ts ks
  | [], [] => True
  | _, _ => False
theorem xAll_get {α : Type} {W : Nat → α → Prop} : ∀ {ts : List Nat} {ks : List α}, xAll W ts ks → ∀ (i : Nat) (k : α), ks[i]? = some k → ∃ t, ts[i]? = some t ∧ W t k
  | t :: ts, k :: ks, h, 0, k', e => by cases e; exact ⟨t, rfl, h.1⟩
  | t :: ts, k :: ks, h, i + 1, k', e => by
    obtain ⟨t', h1, h2⟩ := xAll_get h.2 i k' e
    exact ⟨t', h1, h2⟩
  | [], [], h, i, k', e => by cases e
  | [], k :: ks, h, i, k', e => h.elim
  | t :: ts, [], h, i, k', e => h.elim
theorem x_tab {G : xG} {own nm : String} {cc : ByteArray} {nL d pc : Nat} {ret : Option FieldType} {lv : List (Nat × Value)} {st : List Value} {P : PH} {dflt lo hi : Int} {offs : Array Int} {len : Nat} {x : Int32} {td : Nat} {ks : List (Option (xO × PH))} {kd : Option (xO × PH)} (ts : List Nat) (hd : decode cc pc = .ok (.tableswitch dflt lo hi offs, len)) (ho : offs.toList.map (fun o => (pc : Int) + o) = ts.map (fun t : Nat => (t : Int))) (hl : lo + ks.length = hi + 1) (ht : (pc : Int) + dflt = (td : Int)) (hkd : X G own nm cc nL ret d td lv st P kd) (hks : xAll (fun t k => X G own nm cc nL ret d t lv st P k) ts ks) : X G own nm cc nL ret d pc lv (.int x :: st) P (xtab x lo ks kd) := by
  unfold xtab
  by_cases h : x.toInt < lo ∨ lo + ks.length ≤ x.toInt
  · rw [if_pos h]
    refine x_pure (fun hx hb _ _ hl' k => lv_tableOut hx hb hd ?_ ht (k _ hl')) hkd
    rcases h with h | h
    · exact Or.inl h
    · exact Or.inr (by omega)
  · rw [if_neg h]
    have h1 : ¬ x.toInt < lo := fun q => h (Or.inl q)
    have h2 : ¬ hi < x.toInt := fun q => h (Or.inr (by omega))
    have h3 : (x.toInt - lo).toNat < ks.length := by omega
    obtain ⟨t, e1, e2⟩ := xAll_get hks _ _ (List.getElem?_eq_getElem h3)
    rw [List.getD_eq_getElem?_getD, List.getElem?_eq_getElem h3]
    have e3 : (ts.map (fun t : Nat => (t : Int)))[(x.toInt - lo).toNat]? = some (t : Int) := by rw [List.getElem?_map, e1]; rfl
    rw [← ho, List.getElem?_map] at e3
    cases e4 : offs.toList[(x.toInt - lo).toNat]? with
    | none => rw [e4] at e3; cases e3
    | some off =>
      rw [e4] at e3
      have e5 : (pc : Int) + off = (t : Int) := Option.some.inj e3
      exact x_pure (fun hx hb _ _ hl' k => lv_tableIn hx hb hd h1 h2 (by rw [← Array.getElem?_toList]; exact e4) e5 (k _ hl')) e2
