/-! THE START AS A PURE HEAP, AND THE CLAIM's END -/
set_option maxRecDepth 100000
set_option maxHeartbeats 4000000
def sI (cell : Cell) : Nat → Int32 := fun j => match cell.slots[j]? with
  | some (.int x) => x
  | _ => 0
def sR (cell : Cell) : Nat → Option Nat := fun j => match cell.slots[j]? with
  | some (.ref a) => some a
  | _ => none
def sN (cell : Cell) : Nat := cell.slots.size.toInt32.toNatClampNeg
def sF (cell : Cell) (i : Nat → Nat) (n : Nat) : List Value := (List.range n).map (fun k => match cell.slots[i k]? with
  | some v => v
  | none => .null)
def s0c (G : xG) (cell : Cell) : List PC := [.inl (0, sN cell, .inl (sI cell)), .inl (2, sN cell, .inl (sI cell)), .inl (4, sN cell, .inr (.inr (.inr (.inr (sR cell))))), .inl (7, sN cell, .inr (.inr (.inr (.inr (sR cell))))), .inr (16, sF cell ((gD G).2 16) 4), .inr (18, sF cell ((gD G).2 18) 1)]
noncomputable def s0cells (G : xG) : Nat → Option (Bool × PC) := fun a => match (g0 G).heap[a]? with
  | none => none
  | some ce => ((s0c G ce).find? (fun c => @decide (xaf G a c (g0 G).heap) (Classical.propDecidable _))).map (fun c => (false, c))
noncomputable def P00 (G : xG) : PH := (s0cells G, (g0 G).heap.size, xsl (g0 G).heap, gX G)
theorem P00_xr (G : xG) : xr G (P00 G) (g0 G).heap := by
  refine ⟨⟨rfl, rfl, rfl⟩, Nat.le_refl _, fun q _ => rfl, fun a w c h => ?_⟩
  have h' : s0cells G a = some (w, c) := h
  unfold s0cells at h'
  split at h'
  · cases h'
  · obtain ⟨d, hd, e⟩ := Option.map_eq_some_iff.mp h'
    cases e
    have := List.find?_some hd
    exact ⟨@of_decide_eq_true (xaf G a c (g0 G).heap) (Classical.propDecidable _) this, fun h => nomatch h⟩
theorem xaf_ty {G : xG} {a : Nat} {t : Nat} {x : vp_A} {cell : Cell} {ty : FieldType} {H : Heap} (h : xaf G a (.inl (t, x)) H) (hc : H[a]? = some cell) (hty : (g0 G).isArrayOf cell ty) : xty[t]? = some ty := by
  obtain ⟨⟨c', ty', h0, h1, h2, -⟩, -⟩ := h
  cases hc.symm.trans h1
  obtain ⟨-, k, hk, comp, hkk⟩ := hty
  obtain ⟨-, k', hk', comp', hkk'⟩ := h2
  cases hk.symm.trans hk'
  rw [hkk] at hkk'
  cases hkk'
  exact h0
/-- the law's plain truth -/
theorem law_plain {G : xG} (hO : xOK G) {b L : Nat} {xs : Nat → Int32} (hL : L ≤ 144) (hX : va_X b L xs (g0 G) (g0 G).heap) (hC : gC G = (g0 G).heap.size + 1200048) (hS : gS G = xsl (g0 G).heap + 5501818) : ∃ P' : PH, f_L_law (P00 G) b = some (.inr (some (.int 1)), P') ∧ xLim G P' := by
  sorry
def R_law : String := "ForestLegsLaw"
def lw_P (b : Addr) (xs : List Int32) (args : Array Value) (s : State) : Prop := args = #[.ref b] ∧ s.IntsAt b xs ∧ xs.length ≤ 144 ∧ (Jvm.Cond.and given_1 narrow_1).before args s = true
def lw_Q (_ : Array Value) (s : State) (o : Outcome) (t : State) : Prop := o = .returned (some (.int 1)) ∧ Framed s o t [] 1200048 5501818
def lw_Z (below : List Frame) (a : Array Value) (s : State) : State → Prop := fun t => ∃ o, t.status = .running ∧ Ended t below o ∧ lw_Q a s o t
def lw_At (p : Program) (s : State) (m : MethodId) (meth : Method) (c : Code) (b L : Nat) (xs : Nat → Int32) : Prop :=
  p.tables.exec = Jvm.exec ∧ c.code = code ∧ meth.sig.returnType = ret ∧ c.maxLocals = 7 ∧ s.vm.findClass R_law = some m.cls ∧ (∀ w ∈ lw_tbl, w.before #[Value.ref b] s = true) ∧ va_X b L xs s s.heap ∧ b < s.heap.size ∧ meth.locks = false ∧ (Jvm.Cond.and given_1 narrow_1).before #[Value.ref b] s = true ∧ meth.name = "law" ∧ c.exceptionTable.toList = []
theorem same_new {s U : State} {L : List Loc} {mc ms : Nat} (h : s.sameButNew U L mc ms) (hL : ∀ z ∈ L, s.heap.size ≤ z.base) : s.sameButNew U [] mc ms := by
  obtain ⟨q1, q2, q3, q4, q5, q6⟩ := h
  refine ⟨q1, q2, q3, q4, q5, fun a c hc => ?_⟩
  obtain ⟨c', e1, e2, e3, e4⟩ := q6 a c hc
  refine ⟨c', e1, e2, e3, fun i _ => e4 i fun hm => ?_⟩
  have := hL _ hm
  have h2 := (Array.getElem?_eq_some_iff.mp hc).1
  exact absurd h2 (Nat.not_lt.mpr this)
theorem whole_start {p : Program} {e : Env} {s : State} {m : MethodId} {below : List Frame} {meth : Method} {c : Code} (l : Launch) (hflags : l.flags = flags0) {b L : Nat} {xs : Nat → Int32} (hL : L ≤ 144) (C0 : lw_At p s m meth c b L xs) : W p l e room_1 s m #[Value.ref b] below meth c s.heap [] 0 0 (lw_Z below #[Value.ref b] s) (entryFrame m ([Value.ref b] : List Value).toArray 7) := by
  obtain ⟨c1, c2, c3, c4, c5, c6, c7, c8, c9, c10, c11, c12⟩ := C0
  obtain ⟨D, dA, κ, hO, -⟩ := st_OK hflags c6 c10
  generalize hCm : s.heap.size + 1200048 = Cm at hO
  generalize hSm : xsl s.heap + 5501818 = Sm at hO
  obtain ⟨P', hP', hlim⟩ := law_plain (G := (l, s, D, dA, Cm, Sm, κ)) hO hL c7 hCm.symm hSm.symm
  have hx := (f_L_law_ok hO (P00 (l, s, D, dA, Cm, Sm, κ)) b) _ P' hP'
  have hC : xok (l, s, D, dA, Cm, Sm, κ) (p, e, room_1, s, m, #[Value.ref b], below, meth, c) "ForestLegsLaw" "law" cL_law 7 (Option.some Jvm.ClassFile.FieldType.boolean) 62 :=
    ⟨c1, c2, c3, c4, c5, c9, State.WarmedH.refl s, Nat.le_of_ble_eq_true rfl, Nat.le_of_ble_eq_true rfl, Nat.le_of_eq hCm.symm, Nat.le_of_eq hSm.symm, hO, c11, by rw [c12]; rfl⟩
  have hw := hx.2 hlim _ _ _ _ _ _ _ _ _ hC s.heap [] 0 0 _ (P00_xr _) ⟨Nat.le_refl _, fun l h => by cases h⟩ (lv_entry [Value.ref b] (Nat.le_of_ble_eq_true rfl))
  rw [← lg_entry_eq] at hw
  intro T hT X
  obtain ⟨t, a1, oc, b1, b2, b3, b4, b5, L', b6, b7⟩ := hw T hT X
  have b3' : oc = .returned (some (.int 1)) := b3
  subst b3'
  refine ⟨t, a1, _, b1, b2, rfl, ⟨_, rfl⟩, b5, ?_⟩
  refine same_new ?_ b7
  have e1 : Cm - s.heap.size = 1200048 := by omega
  have e2 : Sm - xsl s.heap = 5501818 := by omega
  have b6' : s.sameButNew ({ t with vm := s.vm } : State) L' (Cm - s.heap.size) (Sm - xsl s.heap) := b6
  rw [e1, e2] at b6'
  exact b6'
set_option maxHeartbeats 4000000 in
theorem lw_walk (l : Launch) (hflags : l.flags = flags0) (b : Addr) (xs : List Int32) : MetFree l x (headSpec (Jvm.Cond.code x code maxLocals ret :: tables_1) room_1) (lw_P b xs) (fun _ _ _ _ _ => True) lw_Q := by
  refine MetFree.of_bodyS (code := code) (maxLocals := maxLocals) (ret := ret) (by decide) ?_ ?_
  · intro args s m h hn
    obtain ⟨meth, c, h1, h2, h3, h4, h5, h6, -, -⟩ := Cond.code_spec hn (atoms_spec (ws := Jvm.Cond.code x code maxLocals ret :: tables_1) h _ List.mem_cons_self)
    exact ⟨meth, c, h1, h2, h3, h4, h5, h6⟩
  · intro p e s m args below meth c s₁ B hml0 hP _
    obtain ⟨rfl, hx, hbd, hgv⟩ := hP
    obtain ⟨scr, harrAt, hlist, hof, hsmall⟩ := hx
    obtain ⟨hcb, hkn, -, -⟩ := State.arrayAt?_spec harrAt
    have hown : s.vm.findClass R_law = some m.cls := findClass_of_methodNamed B.named
    have hts0 : ∀ c ∈ (Jvm.Cond.code x code maxLocals ret :: tables_1), c.before #[Value.ref b] s = true := atoms_spec (ws := Jvm.Cond.code x code maxLocals ret :: tables_1) B.pre
    have hts1 : ∀ w ∈ k2_sels lw_privs ++ tables_1, w.before #[Value.ref b] s = true := k2_hts_sels lw_privs (fun w hw => hts0 w (List.mem_cons_of_mem _ hw)) lw_privs_ok
    have hfl := flat_of_before _ hgv
    have hext : ∀ w ∈ lw_ext, w.before #[Value.ref b] s = true := List.forall_mem_cons.mpr ⟨hfl _ (by decide +kernel), List.forall_mem_cons.mpr ⟨hfl _ (by decide +kernel), List.forall_mem_cons.mpr ⟨hfl _ (by decide +kernel), List.forall_mem_cons.mpr ⟨hfl _ (by decide +kernel), List.forall_mem_cons.mpr ⟨hfl _ (by decide +kernel), List.forall_mem_cons.mpr ⟨hfl _ (by decide +kernel), List.forall_mem_cons.mpr ⟨hfl _ (by decide +kernel), List.forall_mem_cons.mpr ⟨hfl _ (by decide +kernel), fun _ h => absurd h List.not_mem_nil⟩⟩⟩⟩⟩⟩⟩⟩
    have hts : ∀ w ∈ lw_tbl, w.before #[Value.ref b] s = true := fun w hw => (List.mem_append.mp (show w ∈ k2_sels lw_privs ++ (tables_1 ++ lw_ext) from hw)).elim (fun h => hts1 w (List.mem_append_left _ h)) fun h => (List.mem_append.mp h).elim (fun h => hts1 w (List.mem_append_right _ h)) (hext w)
    have hml : c.maxLocals = 7 := B.maxLocals_eq (hts0 _ List.mem_cons_self)
    have X₀ : Stand p l e room_1 s m #[Value.ref b] below meth c s₁ [] 0 0 := Stand.of_body B
    have hh0 : s₁.heap = s.heap := by rw [B.state]; rfl
    have hsz : scr.slots.size = xs.length := by rw [← Array.length_toList, hlist, List.length_map]
    have hval : ∀ j : Nat, j < xs.length → scr.slots[j]? = some (.int (xs.getD j 0)) := fun j hj => by
      rw [← Array.getElem?_toList, hlist]
      simp [hj]
    have hbl : b < s.heap.size := (Array.getElem?_eq_some_iff.mp hcb).1
    have hX : va_X b xs.length (fun j => xs.getD j 0) s s.heap := ⟨scr, hcb, hof, hkn, hsz, hval⟩
    have htab : c.exceptionTable.toList = [] := by
      obtain ⟨meth', c', h1, h2, -, -, -, -, h7, -⟩ := Cond.code_spec B.named (hts0 _ List.mem_cons_self)
      cases B.method.symm.trans h1
      cases X₀.code.symm.trans h2
      rw [Array.isEmpty_iff.mp h7]
    have K : W p l e room_1 s m #[Value.ref b] below meth c s₁.heap [] 0 0 (lw_Z below #[Value.ref b] s) (entryFrame m ([Value.ref b] : List Value).toArray 7) := by
      rw [hh0]
      exact whole_start l hflags hbd ⟨B.exec, B.bytes, B.returns, hml, hown, hts, hX, hbl, B.notSynchronized, hgv, (name_of_methodNamed B.named B.method).1, htab⟩
    obtain ⟨t, a1, o, b1, b2, b3⟩ := K s₁ rfl X₀
    exact ⟨t, o, a1, b1, b2, b3⟩
theorem lw_pre_spec {args : Array Value} {s : State} (h : (Jvm.Cond.and given_1 narrow_1).before args s = true) (hr : rest_1_c.before args s = true) : ∃ (b : Addr) (xs : List Int32), lw_P b xs args s := by
  have hs := flat_of_before _ h
  have hq := flat_of_before _ hr
  have hc : (Cond.count 1).before args s = true := hs _ (by decide +kernel)
  have harr : (Cond.arrayOf (.arg 0) .int).before args s = true := hs _ (by decide +kernel)
  have hle : (Cond.le (.length (.arg 0)) (.int 144)).before args s = true := hs _ (by decide +kernel)
  have hlen : (Cond.isInt (.length (.arg 0))).before args s = true := hq _ (by decide +kernel)
  have hall : (Cond.all (.arg 0) (.isInt (.elem (.arg 0) (.index 0)))).before args s = true := hq _ (by decide +kernel)
  obtain ⟨b, xs, hb, hx⟩ := State.ints_of_pre rfl harr hlen hall
  have hsm : xs.length < 2 ^ 31 := hx.choose_spec.2.2.2
  have hev : (Term.length (.arg 0)).eval args s none [] s = some (.int xs.length.toInt32) := hx.length_eval hb
  have hv := Cond.le_ints hev (show (Term.int 144).eval args s none [] s = some (.int 144) from rfl)
  have hd : xs.length.toInt32 ≤ 144 := by
    simpa [Cond.before, Cond.holds, hv] using hle
  have hN : xs.length ≤ 144 := (Int32.ofNat_le_ofNat hsm (by decide)).mp (show Int32.ofNat xs.length ≤ Int32.ofNat 144 from hd)
  exact ⟨b, xs, Cond.one_arg hc (show args[0]? = some (.ref b) from hb), hx, hN, h⟩
theorem lw_comes (l : Launch) (hflags : l.flags = flags0) : Comes l x (Jvm.Cond.code x code maxLocals ret :: tables_1) room_1 (fun tb e args s => Calls_1 tb e args s ∧ rest_1 tb e args s ∧ Pre_1 tb e args s)
    (fun _ _ args s o t => lw_Q args s o t) := by
  intro p e ha hc hk s m args below hf hfit hheap happ hpre
  obtain ⟨b, xs, hP⟩ := lw_pre_spec hpre.2.2 hpre.2.1
  obtain ⟨k, o, h1, h2, h3, hQ⟩ := lw_walk l hflags b xs p e ha hc hk s m args below hf ((Spec.applies_iff_loose hf).mp happ).1 hP trivial
  exact ⟨k, o, h1, h2, h3, hQ⟩
theorem lw_frame {s t : State} {o : Outcome} {args : Array Value} (h : Framed s o t [] 1200048 5501818) :
    Framed s o t (fieldLocs frame_1_writes args s ++ arrayLocs frame_1_arrays args s ++ staticLocs frame_1_statics s) 1200048 5501818 := h
theorem lw_limb (L : Cond) (hL : ∀ (args : Array Value) (s t : State), L.after args s (.returned (some (.int 1))) t = true) :
    ArmFor flags0 classFile x code maxLocals ret World_1 tables_1 room_1 Calls_1 rest_1 Pre_1
      (fun tb e a s o t => postC L tb e a s o t ∧ Framed s o t (fieldLocs frame_1_writes a s ++ arrayLocs frame_1_arrays a s ++ staticLocs frame_1_statics s) 1200048 5501818) := by
  intro l hflags _ _ p e ha hc hk s m args below hf hfit hheap happ hpre
  obtain ⟨k, o, h1, h2, h3, rfl, hF⟩ := lw_comes l hflags p e ha hc hk s m args below hf hfit hheap happ hpre
  exact ⟨k, _, h1, h2, h3, hL args s _, lw_frame hF⟩
theorem i_vc : Claimed_1_1 ∧ Claimed_1_2 := ⟨lw_limb limb_1_1 (fun args s t => by simp [limb_1_1, Cond.after, Cond.holds, Cond.value]), lw_limb limb_1_2 (fun args s t => Cond.after_iff.mpr (by
  first | (rw [show limb_1_2 = Cond.eq .result (.int 1) from rfl, Cond.eq_ints (x := 1) (y := 1) rfl rfl]; simp; done) | (simp [limb_1_2, Cond.value, Term.eval]; done)))⟩
