/-! THE TWIN's STATE: its int fields and arrays by their places in its table; what it says of a pure heap; rows over it -/
set_option maxRecDepth 100000
abbrev TS : Type := (Nat → Int32) × (Nat → Nat → Int32)
/-- the rest of the heap, the twin's address, its arrays' addresses -/
abbrev TE : Type := PH × Nat × (Nat → Nat)
def tarrs : List Nat := [4, 7, 8, 9, 10, 19, 20, 21, 22, 25, 26, 31]
def tarr (k : Nat) : Bool := tarrs.contains k
def tl (k : Nat) : Nat := match k with
  | 4 => 900
  | 7 => 397
  | 8 => 397
  | 9 => 78
  | 10 => 78
  | 19 => 187
  | 20 => 10
  | 21 => 11
  | 22 => 11
  | 25 => 100
  | 26 => 100
  | _ => 3970
def tfs (E : TE) (s : TS) : List Value := (List.range 32).map (fun k => if tarr k then .ref (E.2.2 k) else .int (s.1 k))
def temb (E : TE) (s : TS) : PH := (fun a => if a = E.2.1 then some (true, .inr (1, tfs E s)) else match tarrs.find? (fun j => E.2.2 j == a) with
  | some j => some (true, .inl (1, tl j, .inl (s.2 j)))
  | none => E.1.1 a, E.1.2)
/-- the twin's four words -/
def slit (j : Nat) : List Int32 := match j with
  | 0 => [99, 111, 117, 114, 115, 101]
  | 1 => [114, 117, 110, 110, 101, 114]
  | 2 => [103, 97, 112]
  | _ => [115, 108, 97, 99, 107]
def tok (E : TE) : Prop := (∀ j, j ∈ tarrs → E.2.2 j ≠ E.2.1) ∧ (∀ i, i ∈ tarrs → ∀ j, j ∈ tarrs → E.2.2 i = E.2.2 j → i = j) ∧ ∀ j, j < 4 → ∃ a b w fs f, E.1.2.2.2 (10 + j) = some a ∧ (a ≠ E.2.1 ∧ b ≠ E.2.1 ∧ ∀ i, i ∈ tarrs → E.2.2 i ≠ a ∧ E.2.2 i ≠ b) ∧ E.1.1 a = some (w, .inr (16, fs)) ∧ fs[0]? = some (.ref b) ∧ fs[1]? = some (.int 0) ∧ E.1.1 b = some (w, .inl (2, (slit j).length, .inl f)) ∧ ∀ i, i < (slit j).length → (f i &&& 255) = (slit j).getD i 0
def tI (s : TS) (k : Nat) (v : Int32) : TS := (fun q => if q = k then v else s.1 q, s.2)
def tA (s : TS) (j i : Nat) (x : Int32) : TS := (s.1, fun q => if q = j then upd (s.2 j) i x else s.2 q)
def tald {β : Type} (s : TS) (j : Nat) (i : Int32) (K : Int32 → Option β) : Option β := if ¬ (i < 0 ∨ tl j ≤ i.toNatClampNeg) then K (s.2 j i.toNatClampNeg) else none
def tast {β : Type} (s : TS) (j : Nat) (i x : Int32) (K : TS → Option β) : Option β := if ¬ (i < 0 ∨ tl j ≤ i.toNatClampNeg) then K (tA s j i.toNatClampNeg x) else none
def tm (E : TE) (K : Option (xO × TS)) : Option (xO × PH) := K.map (fun r => (r.1, temb E r.2))
theorem tm_ite {E : TE} {c : Prop} [Decidable c] {K1 K2 : Option (xO × TS)} : tm E (if c then K1 else K2) = if c then tm E K1 else tm E K2 := by
  split <;> rfl
theorem temb_o (E : TE) (s : TS) : (temb E s).1 E.2.1 = some (true, .inr (1, tfs E s)) := by simp [temb]
theorem temb_find {E : TE} (hE : tok E) {j : Nat} (hj : j ∈ tarrs) : tarrs.find? (fun i => E.2.2 i == E.2.2 j) = some j := by
  cases h : tarrs.find? (fun i => E.2.2 i == E.2.2 j) with
  | none =>
    have := List.find?_eq_none.mp h j hj
    simp at this
  | some i =>
    have h1 := List.find?_some h
    have h2 := List.mem_of_find?_eq_some h
    rw [hE.2.1 i h2 j hj (beq_iff_eq.mp h1)]
theorem temb_a {E : TE} (hE : tok E) {j : Nat} (hj : j ∈ tarrs) (s : TS) : (temb E s).1 (E.2.2 j) = some (true, .inl (1, tl j, .inl (s.2 j))) := by
  simp only [temb, if_neg (hE.1 j hj), temb_find hE hj]
theorem tfs_get (E : TE) (s : TS) {k : Nat} (hk : k < 32) : (tfs E s)[k]? = some (if tarr k then .ref (E.2.2 k) else .int (s.1 k)) := by
  simp [tfs, hk]
theorem tfs_set (E : TE) (s : TS) {k : Nat} (hk : k < 32) (ha : tarr k = false) (v : Int32) : (tfs E s).set k (.int v) = tfs E (tI s k v) := by
  refine List.ext_getElem? fun q => ?_
  by_cases h : q = k
  · subst h
    rw [List.getElem?_set_self (by simp [tfs]; exact hk), tfs_get _ _ hk, ha]
    simp [tI]
  · rw [List.getElem?_set_ne (fun e => h e.symm)]
    by_cases hq : q < 32
    · rw [tfs_get _ _ hq, tfs_get _ _ hq]
      simp [tI, h]
    · rw [List.getElem?_eq_none (by simp [tfs]; omega), List.getElem?_eq_none (by simp [tfs]; omega)]
theorem temb_put (E : TE) (s : TS) {k : Nat} (hk : k < 32) (ha : tarr k = false) (v : Int32) : xup (temb E s) E.2.1 (.inr (1, (tfs E s).set k (.int v))) = temb E (tI s k v) := by
  rw [tfs_set E s hk ha]
  refine Prod.ext (funext fun a => ?_) rfl
  by_cases h : a = E.2.1
  · subst h
    simp [xup, temb]
  · simp [xup, temb, h, tI]
theorem temb_ast {E : TE} (hE : tok E) (s : TS) {j : Nat} (hj : j ∈ tarrs) (i : Nat) (x : Int32) : xup (temb E s) (E.2.2 j) (.inl (1, tl j, .inl (upd (s.2 j) i x))) = temb E (tA s j i x) := by
  refine Prod.ext (funext fun a => ?_) rfl
  have hf : tfs E (tA s j i x) = tfs E s := by simp [tfs, tA]
  by_cases h : a = E.2.2 j
  · subst h
    simp only [xup, temb, if_neg (hE.1 j hj), temb_find hE hj, if_pos]
    simp [tA]
  · by_cases ho : a = E.2.1
    · subst ho
      simp [xup, temb, hf, h]
    · simp only [xup, temb, if_neg h, if_neg ho]
      cases hq : tarrs.find? (fun i => E.2.2 i == a) with
      | none => rfl
      | some q =>
        have h1 : E.2.2 q = a := by simpa using List.find?_some hq
        have h2 : q ≠ j := fun e => h (by rw [← h1, e])
        simp [tA, h2]
section TROWS
variable {G : xG} {E : TE} {own nm : String} {cc : ByteArray} {nL d pc n : Nat} {ret : Option FieldType} {lv : List (Nat × Value)} {st : List Value} {s : TS} {K K1 K2 : Option (xO × TS)}
abbrev XT (G : xG) (E : TE) (own nm : String) (cc : ByteArray) (nL : Nat) (ret : Option FieldType) (d pc : Nat) (lv : List (Nat × Value)) (st : List Value) (s : TS) (K : Option (xO × TS)) : Prop := X G own nm cc nL ret d pc lv st (temb E s) (tm E K)
abbrev CTT (G : xG) (E : TE) (d : Nat) (y : MethodName) (bytes : ByteArray) (maxL : Nat) (ret : Option FieldType) (As : List Value) (s : TS) (K : Option (xO × TS)) : Prop := CT G d y bytes maxL ret As (temb E s) (tm E K)
theorem tw_no : XT G E own nm cc nL ret d pc lv st s none := x_no
theorem tw_nm {e : Int32} {K2 : Int32 → Option (xO × TS)} (k : ∀ x, XT G E own nm cc nL ret d pc lv (.int x :: st) s (K2 x)) : XT G E own nm cc nL ret d pc lv (.int e :: st) s (bnd e K2) := k e
theorem tw_ite {c : Prop} [Decidable c] (kt : c → XT G E own nm cc nL ret d pc lv st s K1) (kf : ¬ c → XT G E own nm cc nL ret d pc lv st s K2) : XT G E own nm cc nL ret d pc lv st s (if c then K1 else K2) := by
  by_cases h : c
  · rw [if_pos h]; exact kt h
  · rw [if_neg h]; exact kf h
theorem tw_iinc {j : Nat} {i : Int} {c x : Int32} {K2 : Int32 → Option (xO × TS)} (q : Nat) (lv' : Int32 → List (Nat × Value)) (hd : decode cc pc = .ok (.iinc j i, 3)) (hq : lv[q]? = some (j, .int x)) (hv : Int32.ofInt i = c) (hj : j < nL) (hl' : ∀ v, xst j (.int v) lv = lv' v) (hn : pc + 3 = n) (k : ∀ v, XT G E own nm cc nL ret d n (lv' v) st s (K2 v)) : XT G E own nm cc nL ret d pc lv st s (bnd (x + c) K2) :=
  x_iinc (x + c) q _ hd hq (by rw [hv]) hj (hl' _) hn (k _)

theorem tw_icmp_eq {x y : Int32} {off : Int} {t : Nat} (hd : decode cc pc = .ok (.if_icmp .eq off, 3)) (ht : (pc : Int) + off = (t : Int)) (hn : pc + 3 = n) (kt : XT G E own nm cc nL ret d t lv st s K1) (kf : XT G E own nm cc nL ret d n lv st s K2) : XT G E own nm cc nL ret d pc lv (.int y :: .int x :: st) s (if x = y then K1 else K2) := by
  unfold XT; rw [tm_ite]; exact x_icmp_eq hd ht hn (fun _ => kt) (fun _ => kf)
theorem tw_if_eq {x : Int32} {off : Int} {t : Nat} (hd : decode cc pc = .ok (.ifCond .eq off, 3)) (ht : (pc : Int) + off = (t : Int)) (hn : pc + 3 = n) (kt : XT G E own nm cc nL ret d t lv st s K1) (kf : XT G E own nm cc nL ret d n lv st s K2) : XT G E own nm cc nL ret d pc lv (.int x :: st) s (if x = 0 then K1 else K2) := by
  unfold XT; rw [tm_ite]; exact x_if_eq hd ht hn (fun _ => kt) (fun _ => kf)
theorem tw_icmp_ne {x y : Int32} {off : Int} {t : Nat} (hd : decode cc pc = .ok (.if_icmp .ne off, 3)) (ht : (pc : Int) + off = (t : Int)) (hn : pc + 3 = n) (kt : XT G E own nm cc nL ret d t lv st s K1) (kf : XT G E own nm cc nL ret d n lv st s K2) : XT G E own nm cc nL ret d pc lv (.int y :: .int x :: st) s (if x = y then K2 else K1) := by
  unfold XT; rw [tm_ite]; exact x_icmp_ne hd ht hn (fun _ => kt) (fun _ => kf)
theorem tw_if_ne {x : Int32} {off : Int} {t : Nat} (hd : decode cc pc = .ok (.ifCond .ne off, 3)) (ht : (pc : Int) + off = (t : Int)) (hn : pc + 3 = n) (kt : XT G E own nm cc nL ret d t lv st s K1) (kf : XT G E own nm cc nL ret d n lv st s K2) : XT G E own nm cc nL ret d pc lv (.int x :: st) s (if x = 0 then K2 else K1) := by
  unfold XT; rw [tm_ite]; exact x_if_ne hd ht hn (fun _ => kt) (fun _ => kf)
theorem tw_icmp_lt {x y : Int32} {off : Int} {t : Nat} (hd : decode cc pc = .ok (.if_icmp .lt off, 3)) (ht : (pc : Int) + off = (t : Int)) (hn : pc + 3 = n) (kt : XT G E own nm cc nL ret d t lv st s K1) (kf : XT G E own nm cc nL ret d n lv st s K2) : XT G E own nm cc nL ret d pc lv (.int y :: .int x :: st) s (if x < y then K1 else K2) := by
  unfold XT; rw [tm_ite]; exact x_icmp_lt hd ht hn (fun _ => kt) (fun _ => kf)
theorem tw_if_lt {x : Int32} {off : Int} {t : Nat} (hd : decode cc pc = .ok (.ifCond .lt off, 3)) (ht : (pc : Int) + off = (t : Int)) (hn : pc + 3 = n) (kt : XT G E own nm cc nL ret d t lv st s K1) (kf : XT G E own nm cc nL ret d n lv st s K2) : XT G E own nm cc nL ret d pc lv (.int x :: st) s (if x < 0 then K1 else K2) := by
  unfold XT; rw [tm_ite]; exact x_if_lt hd ht hn (fun _ => kt) (fun _ => kf)
theorem tw_icmp_ge {x y : Int32} {off : Int} {t : Nat} (hd : decode cc pc = .ok (.if_icmp .ge off, 3)) (ht : (pc : Int) + off = (t : Int)) (hn : pc + 3 = n) (kt : XT G E own nm cc nL ret d t lv st s K1) (kf : XT G E own nm cc nL ret d n lv st s K2) : XT G E own nm cc nL ret d pc lv (.int y :: .int x :: st) s (if y ≤ x then K1 else K2) := by
  unfold XT; rw [tm_ite]; exact x_icmp_ge hd ht hn (fun _ => kt) (fun _ => kf)
theorem tw_if_ge {x : Int32} {off : Int} {t : Nat} (hd : decode cc pc = .ok (.ifCond .ge off, 3)) (ht : (pc : Int) + off = (t : Int)) (hn : pc + 3 = n) (kt : XT G E own nm cc nL ret d t lv st s K1) (kf : XT G E own nm cc nL ret d n lv st s K2) : XT G E own nm cc nL ret d pc lv (.int x :: st) s (if 0 ≤ x then K1 else K2) := by
  unfold XT; rw [tm_ite]; exact x_if_ge hd ht hn (fun _ => kt) (fun _ => kf)
theorem tw_icmp_gt {x y : Int32} {off : Int} {t : Nat} (hd : decode cc pc = .ok (.if_icmp .gt off, 3)) (ht : (pc : Int) + off = (t : Int)) (hn : pc + 3 = n) (kt : XT G E own nm cc nL ret d t lv st s K1) (kf : XT G E own nm cc nL ret d n lv st s K2) : XT G E own nm cc nL ret d pc lv (.int y :: .int x :: st) s (if y < x then K1 else K2) := by
  unfold XT; rw [tm_ite]; exact x_icmp_gt hd ht hn (fun _ => kt) (fun _ => kf)
theorem tw_if_gt {x : Int32} {off : Int} {t : Nat} (hd : decode cc pc = .ok (.ifCond .gt off, 3)) (ht : (pc : Int) + off = (t : Int)) (hn : pc + 3 = n) (kt : XT G E own nm cc nL ret d t lv st s K1) (kf : XT G E own nm cc nL ret d n lv st s K2) : XT G E own nm cc nL ret d pc lv (.int x :: st) s (if 0 < x then K1 else K2) := by
  unfold XT; rw [tm_ite]; exact x_if_gt hd ht hn (fun _ => kt) (fun _ => kf)
theorem tw_icmp_le {x y : Int32} {off : Int} {t : Nat} (hd : decode cc pc = .ok (.if_icmp .le off, 3)) (ht : (pc : Int) + off = (t : Int)) (hn : pc + 3 = n) (kt : XT G E own nm cc nL ret d t lv st s K1) (kf : XT G E own nm cc nL ret d n lv st s K2) : XT G E own nm cc nL ret d pc lv (.int y :: .int x :: st) s (if x ≤ y then K1 else K2) := by
  unfold XT; rw [tm_ite]; exact x_icmp_le hd ht hn (fun _ => kt) (fun _ => kf)
theorem tw_if_le {x : Int32} {off : Int} {t : Nat} (hd : decode cc pc = .ok (.ifCond .le off, 3)) (ht : (pc : Int) + off = (t : Int)) (hn : pc + 3 = n) (kt : XT G E own nm cc nL ret d t lv st s K1) (kf : XT G E own nm cc nL ret d n lv st s K2) : XT G E own nm cc nL ret d pc lv (.int x :: st) s (if x ≤ 0 then K1 else K2) := by
  unfold XT; rw [tm_ite]; exact x_if_le hd ht hn (fun _ => kt) (fun _ => kf)
theorem tw_idiv {x y : Int32} (hd : decode cc pc = .ok (.idiv, 1)) (hn : pc + 1 = n) (k : XT G E own nm cc nL ret d n lv (.int (x / y) :: st) s K) : XT G E own nm cc nL ret d pc lv (.int y :: .int x :: st) s (if y = 0 then none else K) := by
  unfold XT; rw [tm_ite]; exact x_idiv hd hn (fun _ => k)
theorem tw_irem {x y : Int32} (hd : decode cc pc = .ok (.irem, 1)) (hn : pc + 1 = n) (k : XT G E own nm cc nL ret d n lv (.int (x - x / y * y) :: st) s K) : XT G E own nm cc nL ret d pc lv (.int y :: .int x :: st) s (if y = 0 then none else K) := by
  unfold XT; rw [tm_ite]; exact x_irem hd hn (fun _ => k)
/-- a pool entry of the twin's own field k -/
theorem tw_getI {k index : Nat} (hF : xFL own index 1 k) (ha : tarr k = false) (hk : k < 32) (hd : decode cc pc = .ok (.getfield index, 3)) (hn : pc + 3 = n) (kk : XT G E own nm cc nL ret d n lv (.int (s.1 k) :: st) s K) : XT G E own nm cc nL ret d pc lv (.ref E.2.1 :: st) s K :=
  x_get hF hd hn (temb_o E s) (by rw [tfs_get _ _ hk, ha]; rfl) kk
theorem tw_getA {k index : Nat} (hF : xFL own index 1 k) (ha : tarr k = true) (hk : k < 32) (hd : decode cc pc = .ok (.getfield index, 3)) (hn : pc + 3 = n) (kk : XT G E own nm cc nL ret d n lv (.ref (E.2.2 k) :: st) s K) : XT G E own nm cc nL ret d pc lv (.ref E.2.1 :: st) s K :=
  x_get hF hd hn (temb_o E s) (by rw [tfs_get _ _ hk, ha]; rfl) kk
theorem tw_put {k index : Nat} {v : Int32} {K2 : TS → Option (xO × TS)} (hF : xPL own index 1 k nm (.int v)) (ha : tarr k = false) (hk : k < 32) (hd : decode cc pc = .ok (.putfield index, 3)) (hn : pc + 3 = n) (kk : ∀ s', XT G E own nm cc nL ret d n lv st s' (K2 s')) : XT G E own nm cc nL ret d pc lv (.int v :: .ref E.2.1 :: st) s (bnd (tI s k v) K2) := by
  refine x_put hF hd hn (temb_o E s) ?_
  rw [temb_put E s hk ha]
  exact kk _
theorem tw_iald {j : Nat} {i : Int32} {K2 : Int32 → Option (xO × TS)} (hE : tok E) (hj : j ∈ tarrs) (hd : decode cc pc = .ok (.iaload, 1)) (hn : pc + 1 = n) (kk : ∀ x, XT G E own nm cc nL ret d n lv (.int x :: st) s (K2 x)) : XT G E own nm cc nL ret d pc lv (.int i :: .ref (E.2.2 j) :: st) s (tald s j i K2) := by
  have h := x_iald (P := temb E s) (K2 := fun x => tm E (K2 x)) (ret := ret) (i := i) (a := E.2.2 j) (t := 1) (G := G) (own := own) (nm := nm) (nL := nL) (d := d) (lv := lv) (st := st) rfl hd hn kk
  have e : xaI (temb E s) (E.2.2 j) 1 i (fun x => tm E (K2 x)) = tm E (tald s j i K2) := by
    unfold xaI tald
    rw [temb_a hE hj, tm_ite]
    by_cases hi : ¬ (i < 0 ∨ tl j ≤ i.toNatClampNeg)
    · rw [if_pos hi]; exact if_pos ⟨rfl, hi⟩
    · rw [if_neg hi]; exact if_neg fun z => hi z.2
  rw [e] at h
  exact h
theorem tw_iast {j : Nat} {i x : Int32} {K2 : TS → Option (xO × TS)} (hE : tok E) (hj : j ∈ tarrs) (hd : decode cc pc = .ok (.iastore, 1)) (hn : pc + 1 = n) (kk : ∀ s', XT G E own nm cc nL ret d n lv st s' (K2 s')) : XT G E own nm cc nL ret d pc lv (.int x :: .int i :: .ref (E.2.2 j) :: st) s (tast s j i x K2) := by
  subst hn
  unfold tast
  split
  · rename_i hin
    refine x_heap (P1 := temb E (tA s j i.toNatClampNeg x)) ⟨Nat.le_refl _, Nat.le_refl _⟩ (fun {p e R s' m args below meth c} hC {H locs cells slots Q ls} hr hS hl hlim g => ?_) (kk _)
    have ha := temb_a hE hj s
    obtain ⟨h1, h2⟩ := xarr hr (xok_K hC) (ty := .int) rfl ha
    have hZ := (hr.2.2.2 _ true _ ha).2 rfl
    refine W.iast hC.1 hC.2.1 h1 (h2 (tl j) (fun q => .int (s.2 j q))) (fun q => by cases q) (by show ¬ (i < 0 ∨ (arrV _ _ _).slots.size ≤ _); rw [arrV_size]; exact hin) rfl rfl hd fun H' e1 e2 e3 => ?_
    refine g H' _ cells slots ls ?_ (hS.put e2 hZ) hl
    rw [← temb_ast hE s hj]
    refine xr_put hr ha e2 (xsl_put e2 h1 e1 (by simp [Cell.setSlot]) e3) e3 ⟨?_, fun z => by cases z⟩
    show H'[_]? = some (vp_cell _ _)
    rw [e1, xset_i]
  · exact x_no
theorem tw_zreturn {v : Int32} {ty : FieldType} (hty : narrow ty (.int v) = .int (vp_nar ty v)) (hd : decode cc pc = .ok (.ireturn, 1)) : XT G E own nm cc nL (some ty) d pc lv [.int v] s (if vp_nar ty v = v then rI v s else none) := by
  unfold XT; rw [tm_ite]; exact x_nreturn hty hd
theorem tw_ireturn {v : Int32} (hd : decode cc pc = .ok (.ireturn, 1)) : XT G E own nm cc nL (some .int) d pc lv [.int v] s (rI v s) := x_ireturn hd
theorem tw_return (hd : decode cc pc = .ok (.return_, 1)) : XT G E own nm cc nL none d pc lv [] s (rV s) := x_return hd
theorem tw_tab {dflt lo hi : Int} {offs : Array Int} {len : Nat} {x : Int32} {td : Nat} {ks : List (Option (xO × TS))} {kd : Option (xO × TS)} (ts : List Nat) (hd : decode cc pc = .ok (.tableswitch dflt lo hi offs, len)) (ho : offs.toList.map (fun o => (pc : Int) + o) = ts.map (fun t : Nat => (t : Int))) (hl : lo + ks.length = hi + 1) (ht : (pc : Int) + dflt = (td : Int)) (hkd : XT G E own nm cc nL ret d td lv st s kd) (hks : xAll (fun t k => XT G E own nm cc nL ret d t lv st s k) ts ks) : XT G E own nm cc nL ret d pc lv (.int x :: st) s (xtab x lo ks kd) := by
  have e : tm E (xtab x lo ks kd) = xtab x lo (ks.map (tm E)) (tm E kd) := by
    unfold xtab
    rw [tm_ite, List.length_map]
    by_cases h : x.toInt < lo ∨ lo + ks.length ≤ x.toInt
    · rw [if_pos h, if_pos h]
    · rw [if_neg h, if_neg h]
      simp only [List.getD_eq_getElem?_getD, List.getElem?_map]
      cases ks[(x.toInt - lo).toNat]? <;> rfl
  unfold XT
  rw [e]
  refine x_tab ts hd ho (by rw [List.length_map]; exact hl) ht hkd ?_
  clear hl e
  induction ks generalizing ts with
  | nil => cases ts <;> exact hks
  | cons k ks ih =>
    cases ts with
    | nil => exact hks.elim
    | cons t ts =>
      refine ⟨hks.1, ?_⟩
      have : ∀ (ks : List (Option (xO × TS))) (ts : List Nat), xAll (fun t k => XT G E own nm cc nL ret d t lv st s k) ts ks → xAll (fun t k => X G own nm cc nL ret d t lv st (temb E s) k) ts (ks.map (tm E)) := by
        intro ks
        induction ks with
        | nil => intro ts h; cases ts <;> exact h
        | cons k ks ih =>
          intro ts h
          cases ts with
          | nil => exact h.elim
          | cons t ts => exact ⟨h.1, ih ts h.2⟩
      exact this ks ts hks.2
theorem tm_some {Kc : Option (xO × TS)} {v : Option Value} {P1 : PH} (e : tm E Kc = some (.inr v, P1)) : ∃ s1, Kc = some (.inr v, s1) ∧ P1 = temb E s1 := by
  rcases Kc with _ | ⟨o, s1⟩
  · cases e
  · cases e
    exact ⟨s1, rfl, rfl⟩
theorem tw_callV_I {d' maxL n' : Nat} {y : MethodName} {bytes : ByteArray} {rt : Option FieldType} {index : Nat} {Kc : Option (xO × TS)} {K2 : Int32 → TS → Option (xO × TS)} (As rest : List Value) (hct : CTT G E d' y bytes maxL rt (.ref E.2.1 :: As) s Kc) (hmd : xMd y bytes maxL rt n') (hlink : Cond.methodLink own index y ∈ lw_all) (hin : Cond.instanceMethod y ∈ lw_all) (hsel : Cond.selects RX2 y y ∈ lw_all) (hd : decode cc pc = .ok (.invokevirtual index, 3)) (hAs : As.length = n') (hst : st = As.reverse ++ .ref E.2.1 :: rest) (hdd : d' < d) (hrest : (rest.map fun v => v.category).sum ≤ 20) (hn : pc + 3 = n) (hk : ∀ x s', XT G E own nm cc nL ret d n lv (.int x :: rest) s' (K2 x s')) : XT G E own nm cc nL ret d pc lv st s (xcI Kc K2) := by
  refine x_callV_G As rest hct (fun z _ => by unfold xco; rw [temb_o E s]) hmd rfl hlink hin hsel hd hAs hst hdd hrest hn (fun r h => ?_) (fun v P1 h => ?_)
  · rcases Kc with _ | ⟨q | v, s1⟩
    · cases h
    · cases h
    · exact ⟨v, _, rfl⟩
  obtain ⟨s1, e1, e2⟩ := tm_some h
  subst e1
  subst e2
  rcases v with _ | v
  · exact x_no
  · cases v <;> first | exact x_no | exact hk _ _
theorem tw_callV_V {d' maxL n' : Nat} {y : MethodName} {bytes : ByteArray} {rt : Option FieldType} {index : Nat} {Kc : Option (xO × TS)} {K2 : TS → Option (xO × TS)} (As rest : List Value) (hct : CTT G E d' y bytes maxL rt (.ref E.2.1 :: As) s Kc) (hmd : xMd y bytes maxL rt n') (hlink : Cond.methodLink own index y ∈ lw_all) (hin : Cond.instanceMethod y ∈ lw_all) (hsel : Cond.selects RX2 y y ∈ lw_all) (hd : decode cc pc = .ok (.invokevirtual index, 3)) (hAs : As.length = n') (hst : st = As.reverse ++ .ref E.2.1 :: rest) (hdd : d' < d) (hrest : (rest.map fun v => v.category).sum ≤ 20) (hn : pc + 3 = n) (hk : ∀ s', XT G E own nm cc nL ret d n lv rest s' (K2 s')) : XT G E own nm cc nL ret d pc lv st s (xcV Kc K2) := by
  refine x_callV_G As rest hct (fun z _ => by unfold xco; rw [temb_o E s]) hmd rfl hlink hin hsel hd hAs hst hdd hrest hn (fun r h => ?_) (fun v P1 h => ?_)
  · rcases Kc with _ | ⟨q | v, s1⟩
    · cases h
    · cases h
    · exact ⟨v, _, rfl⟩
  obtain ⟨s1, e1, e2⟩ := tm_some h
  subst e1
  subst e2
  rcases v with _ | v
  · exact hk _
  · exact x_no
theorem tw_callS_I {d' maxL n' : Nat} {y : MethodName} {bytes : ByteArray} {rt : Option FieldType} {index : Nat} {Kc : Option (xO × TS)} {K2 : Int32 → TS → Option (xO × TS)} (As rest : List Value) (hct : CTT G E d' y bytes maxL rt As s Kc) (hmd : xMd y bytes maxL rt n') (hlink : Cond.methodLink own index y ∈ lw_all) (hin : Cond.static y ∈ lw_all) (hd : decode cc pc = .ok (.invokestatic index, 3)) (hAs : As.length = n') (hst : st = As.reverse ++ rest) (hdd : d' < d) (hrest : (rest.map fun v => v.category).sum ≤ 20) (hn : pc + 3 = n) (hk : ∀ x s', XT G E own nm cc nL ret d n lv (.int x :: rest) s' (K2 x s')) : XT G E own nm cc nL ret d pc lv st s (xcI Kc K2) := by
  refine x_callS_G As rest hct hmd hlink hin hd hAs hst hdd hrest hn (fun r h => ?_) (fun v P1 h => ?_)
  · rcases Kc with _ | ⟨q | v, s1⟩
    · cases h
    · cases h
    · exact ⟨v, _, rfl⟩
  obtain ⟨s1, e1, e2⟩ := tm_some h
  subst e1
  subst e2
  rcases v with _ | v
  · exact x_no
  · cases v <;> first | exact x_no | exact hk _ _
theorem tw_callS_V {d' maxL n' : Nat} {y : MethodName} {bytes : ByteArray} {rt : Option FieldType} {index : Nat} {Kc : Option (xO × TS)} {K2 : TS → Option (xO × TS)} (As rest : List Value) (hct : CTT G E d' y bytes maxL rt As s Kc) (hmd : xMd y bytes maxL rt n') (hlink : Cond.methodLink own index y ∈ lw_all) (hin : Cond.static y ∈ lw_all) (hd : decode cc pc = .ok (.invokestatic index, 3)) (hAs : As.length = n') (hst : st = As.reverse ++ rest) (hdd : d' < d) (hrest : (rest.map fun v => v.category).sum ≤ 20) (hn : pc + 3 = n) (hk : ∀ s', XT G E own nm cc nL ret d n lv rest s' (K2 s')) : XT G E own nm cc nL ret d pc lv st s (xcV Kc K2) := by
  refine x_callS_G As rest hct hmd hlink hin hd hAs hst hdd hrest hn (fun r h => ?_) (fun v P1 h => ?_)
  · rcases Kc with _ | ⟨q | v, s1⟩
    · cases h
    · cases h
    · exact ⟨v, _, rfl⟩
  obtain ⟨s1, e1, e2⟩ := tm_some h
  subst e1
  subst e2
  rcases v with _ | v
  · exact hk _
  · exact x_no
/-- an array of the twin's is handed on: its address -/
theorem tw_cut {W : Prop} (h : W) : W := h
/-! strings -/
theorem temb_s {E : TE} {s : TS} {a : Nat} (h1 : a ≠ E.2.1) (h2 : ∀ i, i ∈ tarrs → E.2.2 i ≠ a) : (temb E s).1 a = E.1.1 a := by
  have : tarrs.find? (fun i => E.2.2 i == a) = none := by
    rw [List.find?_eq_none]
    intro i hi
    simpa using h2 i hi
  simp only [temb, if_neg h1, this]
def tsl (j : Nat) : Int32 := Int32.ofNat (slit j).length
def tch {β : Type} (j : Nat) (i : Int32) (K : Int32 → Option β) : Option β := if ¬ (i < 0 ∨ (slit j).length ≤ i.toNatClampNeg) then K ((slit j).getD i.toNatClampNeg 0) else none
theorem tw_ldcS {j index : Nat} {tx : String} (hj : xlits[j]? = some (own, index, tx, 10 + j)) (hd : decode cc pc = .ok (.ldc index, 2)) (hn : pc + 2 = n) (k : XT G E own nm cc nL ret d n lv (va_rf (E.1.2.2.2 (10 + j)) :: st) s K) : XT G E own nm cc nL ret d pc lv st s K := by
  have := x_ldcS (G := G) (nm := nm) (cc := cc) (nL := nL) (ret := ret) (d := d) (lv := lv) (st := st) (P := temb E s) (K2 := fun x => if x = E.1.2.2.2 (10 + j) then tm E K else none) hj hd hn (fun x => by
    split
    · rename_i e
      subst e
      exact k
    · exact x_no)
  have e : xcon (temb E s) (10 + j) (fun x => if x = E.1.2.2.2 (10 + j) then tm E K else none) = tm E K := if_pos rfl
  rw [e] at this
  exact this
theorem i10 : ¬ ((1 : Int32) = 0) := by decide
theorem nar_b0 : vp_nar .byte 0 = 0 := by decide
theorem nar_z0 : vp_nar .boolean 0 = 0 := by decide
theorem nar_z1 : vp_nar .boolean 1 = 1 := by decide
theorem sh0 (x : Int32) : x >>> ((0 : Int32) &&& 31) = x := by
  have : ((0 : Int32) &&& 31) = 0 := by decide
  rw [this]
  exact Int32.toBitVec_inj.mp (by simp)
theorem tw_len_eq {j : Nat} (hj : j < 4) (hE : tok E) : ∃ a, E.1.2.2.2 (10 + j) = some a ∧ f_J6_length (temb E s) a = rI (tsl j) (temb E s) := by
  obtain ⟨a, b, w, fs, f, h1, ⟨h2, h3, h4⟩, h5, h6, h7, h8, -⟩ := hE.2.2 j hj
  refine ⟨a, h1, ?_⟩
  have ea : (temb E s).1 a = some (w, .inr (16, fs)) := (temb_s h2 fun i hi => (h4 i hi).1).trans h5
  have eb : (temb E s).1 b = some (w, .inl (2, (slit j).length, .inl f)) := (temb_s h3 fun i hi => (h4 i hi).2).trans h8
  simp [f_J6_length, f_J6_coder, xcl1, xco, xgR, xgI, xlen, ea, eb, h6, h7, rI, xcI, xnul, tsl, nar_b0, sh0]
theorem tw_ch_eq {j : Nat} (hj : j < 4) (hE : tok E) {i : Int32} (hi : ¬ (i < 0 ∨ (slit j).length ≤ i.toNatClampNeg)) : ∃ a, E.1.2.2.2 (10 + j) = some a ∧ f_J6_charAt (temb E s) a i = rI ((slit j).getD i.toNatClampNeg 0) (temb E s) := by
  obtain ⟨a, b, w, fs, f, h1, ⟨h2, h3, h4⟩, h5, h6, h7, h8, h9⟩ := hE.2.2 j hj
  refine ⟨a, h1, ?_⟩
  have ea : (temb E s).1 a = some (w, .inr (16, fs)) := (temb_s h2 fun i hi => (h4 i hi).1).trans h5
  have eb : (temb E s).1 b = some (w, .inl (2, (slit j).length, .inl f)) := (temb_s h3 fun i hi => (h4 i hi).2).trans h8
  have hi1 : ¬ (i < 0) := fun h => hi (Or.inl h)
  have hi2 : i.toNatClampNeg < (slit j).length := Nat.lt_of_not_le fun h => hi (Or.inr h)
  have hx : i < Int32.ofNat (slit j).length := by
    have hb : (slit j).length ≤ 6 := by unfold slit; split <;> decide
    rw [Int32.lt_iff_toInt_lt]
    have e1 : i.toInt = (i.toNatClampNeg : Int) := xnn i hi1
    have e2 : (Int32.ofNat (slit j).length).toInt = ((slit j).length : Int) := by
      rw [Int32.toInt_ofNat_of_lt (by omega)]
    omega
  have h9' := h9 _ hi2
  have hi3 : ¬ ((slit j).length ≤ i.toNatClampNeg) := Nat.not_le_of_lt hi2
  have hall : ∀ j, ∀ x ∈ slit j, vp_nar .char x = x ∧ (x.toUInt32 % 65536).toInt32 = x := by
    intro j
    unfold slit
    split <;> decide
  have hc := hall j ((slit j).getD i.toNatClampNeg 0) (by
    rw [List.getD_eq_getElem?_getD, List.getElem?_eq_getElem hi2]
    exact List.getElem_mem hi2)
  simp only [f_J6_charAt, f_J6_isLatin1, f_J7_charAt, f_J6_checkIndex, f_J10_checkIndex, xcl1, xco, xgR, xgI, xlen, xaI, ea, eb, h6, h7, rI, rV, xcI, xcV, xcon, xnul, hi1, hx, h9', hc.1, hc.2, nar_b0, nar_z0, nar_z1, i10, hi2, hi3, false_or, not_false_eq_true, Nat.reduceLT, and_self, ↓reduceIte]
def tlenK {β : Type} (j : Nat) (K : Int32 → Option β) : Option β := if j < 4 then K (tsl j) else none
def tchK {β : Type} (j : Nat) (i : Int32) (K : Int32 → Option β) : Option β := if j < 4 then tch j i K else none
theorem tw_slen {j index : Nat} {rest : List Value} {K2 : Int32 → Option (xO × TS)} (hO : xOK G) (hE : tok E) (hlink : Cond.methodLink own index yJ6_length ∈ lw_all) (hd : decode cc pc = .ok (.invokevirtual index, 3)) (hdd : 1 < d) (hrest : (rest.map fun v => v.category).sum ≤ 20) (hn : pc + 3 = n) (hk : ∀ x, XT G E own nm cc nL ret d n lv (.int x :: rest) s (K2 x)) : XT G E own nm cc nL ret d pc lv (va_rf (E.1.2.2.2 (10 + j)) :: rest) s (tlenK j K2) := by
  unfold tlenK
  split
  · rename_i hj
    obtain ⟨a, h1, h2⟩ := tw_len_eq (s := s) hj hE
    rw [h1]
    refine x_callV_G (ci := 16) [] rest (f_J6_length_ok hO (temb E s) a) rc_J6_length md_J6_length rfl hlink q420 q421 hd rfl rfl hdd hrest hn (fun r hr => ⟨_, _, h2⟩) (fun v P1 e => ?_)
    rw [h2] at e
    cases e
    exact hk _
  · exact tw_no
theorem tw_sch {j index : Nat} {i : Int32} {rest : List Value} {K2 : Int32 → Option (xO × TS)} (hO : xOK G) (hE : tok E) (hlink : Cond.methodLink own index yJ6_charAt ∈ lw_all) (hd : decode cc pc = .ok (.invokevirtual index, 3)) (hdd : 3 < d) (hrest : (rest.map fun v => v.category).sum ≤ 20) (hn : pc + 3 = n) (hk : ∀ x, XT G E own nm cc nL ret d n lv (.int x :: rest) s (K2 x)) : XT G E own nm cc nL ret d pc lv (.int i :: va_rf (E.1.2.2.2 (10 + j)) :: rest) s (tchK j i K2) := by
  unfold tchK tch
  split
  · rename_i hj
    split
    · rename_i hi
      obtain ⟨a, h1, h2⟩ := tw_ch_eq (s := s) hj hE hi
      rw [h1]
      refine x_callV_G (ci := 16) [.int i] rest (f_J6_charAt_ok hO (temb E s) a i) rc_J6_charAt md_J6_charAt rfl hlink q3049 q3050 hd rfl rfl hdd hrest hn (fun r hr => ⟨_, _, h2⟩) (fun v P1 e => ?_)
      rw [h2] at e
      cases e
      exact hk _
    · exact tw_no
  · exact tw_no
end TROWS
