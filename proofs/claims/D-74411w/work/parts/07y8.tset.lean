/-! NEW MAPS, SETS -/
set_option maxRecDepth 100000
abbrev newMap (cm q : Value) : PC := oB 15 [.null, .null, cm, .null, .int 0, .int 0, .null, q, .null]
section
variable {t : Nat} {P : PH} {m s : Nat} {q : Value} {es : List Nat} {K : Nat → Int} {kk vv : Nat → Option Nat}
theorem MP.empty {cm : Value} (h : P.1 m = some (true, newMap cm q)) (hC : KC t P cm) : MP t P m q [] K kk vv := by
  refine ⟨cm, none, fun _ => none, fun _ => none, fun _ => none, fun _ => z 1, fun _ => 0, fun _ => 0, ⟨⟨⟨_, _, _, _, _, h⟩, fun e he => (by cases he)⟩, ?_⟩, fun rt h => (by cases h), ⟨List.nodup_nil, by simp⟩, hC, fun e he => by cases he⟩
  refine ⟨?_, ?_, ?_, ?_, ?_, ?_, ?_, ?_, ?_, ?_, ?_⟩ <;> grind
theorem newmap_init : f_J5_init (xpush P (newMap .null .null) 9) P.2.1 = rV (xpush P (newMap .null .null) 9) := by
  unfold f_J5_init f_J4_init
  rw [xcV_rV, xpF_z push_at (by simp), up_push, xpF_z push_at (by simp), up_push, xpF_z push_at (by simp), up_push]
  rfl
theorem newmap_init2 {x : Option Nat} : f_J5_init_2 (xpush P (newMap .null .null) 9) P.2.1 x = rV (xpush P (newMap (va_rf x) .null) 9) := by
  unfold f_J5_init_2 f_J4_init
  rw [xcV_rV, xpF_z push_at (by simp), up_push, xpF_z push_at (by simp), up_push, xpF_z push_at (by simp), up_push]
  rfl
/-- a set's cell -/
def TSt (P : PH) (s m : Nat) : Prop := P.1 s = some (true, oB 23 [.ref m])
theorem TSt.fr {P' : PH} {W : Nat → Prop} (h : TSt P s m) (hI : Iv P) (hf : Fr P.2.1 W P P') (hm : ¬ W s) : TSt P' s m := hf.ob (hI.lt h) h hm
theorem setmap (h : P.1 s = some (true, oB 23 [.null])) (hI : Iv P) {cm : Value} (hC : KC t P cm) : ∃ P', f_J34_init_2 (xpush P (newMap cm .null) 9) s (some P.2.1) = rV P' ∧ TSt P' s P.2.1 ∧ MP t P' P.2.1 .null [] K kk vv ∧ Fr P.2.1 (fun a => a = s) P P' ∧ wt P' = wt P + 10 ∧ P.2.1 < P'.2.1 := by
  have hs := hI.lt h
  have f1 : Fr P.2.1 (fun a => a = s) P (xpush P (newMap cm .null) 9) := Fr.push hI rfl
  have h1 := push_old hI h (c := newMap cm .null) (m := 9)
  refine ⟨xup (xpush P (newMap cm .null) 9) s (oB 23 [.ref P.2.1]), ?_, up_at, MP.empty (cm := cm) ((up_ne (by omega)).trans push_at) hC, f1.trans (Fr.upo f1.iv h1 rfl (fun b hb => by cases hb) fun _ => rfl), (wt_push (P := P) (c := newMap cm .null) (m := 9)), Nat.lt_succ_self _⟩
  unfold f_J34_init_2 f_J33_init f_J0_init
  rw [xcV_rV, xcV_rV, xpF_z h1 (by simp)]
  rfl
theorem TSt.new2 (h : P.1 s = some (true, oB 23 [.null])) (hI : Iv P) {x : Option Nat} (hx : P.2.2.2 0 = x) : ∃ P', f_J34_init P s x = rV P' ∧ TSt P' s P.2.1 ∧ MP 2 P' P.2.1 .null [] K kk vv ∧ Fr P.2.1 (fun a => a = s) P P' ∧ wt P' = wt P + 10 ∧ P.2.1 < P'.2.1 := by
  obtain ⟨b, h1, h2, h3⟩ := id hI.2.2.2.2
  obtain ⟨P', e, r⟩ := setmap (K := K) (kk := kk) (vv := vv) (t := 2) h hI (cm := .ref b) ⟨fun h => by omega, fun _ => ⟨b, h1, rfl⟩, by omega⟩
  refine ⟨P', ?_, r⟩
  rw [← hx, h1]
  unfold f_J34_init
  rw [xnew_s, show [Value.null, Value.null, Value.null, Value.null, Value.int 0, Value.int 0, Value.null, Value.null, Value.null].length = 9 from rfl, newmap_init2, xcV_rV]
  show xcV (f_J34_init_2 (xpush P (newMap (.ref b) .null) 9) s (some P.2.1)) _ = _
  rw [e]
  rfl
theorem TSt.new0 (ht : t < 2) (h : P.1 s = some (true, oB 23 [.null])) (hI : Iv P) : ∃ P', f_J34_init_3 P s = rV P' ∧ TSt P' s P.2.1 ∧ MP t P' P.2.1 .null [] K kk vv ∧ Fr P.2.1 (fun a => a = s) P P' ∧ wt P' = wt P + 10 ∧ P.2.1 < P'.2.1 := by
  obtain ⟨P', e, r⟩ := setmap (K := K) (kk := kk) (vv := vv) (t := t) h hI (cm := .null) ⟨fun _ => rfl, fun h => by omega, by omega⟩
  refine ⟨P', ?_, r⟩
  unfold f_J34_init_3
  rw [xnew_s, show [Value.null, Value.null, Value.null, Value.null, Value.int 0, Value.int 0, Value.null, Value.null, Value.null].length = 9 from rfl, newmap_init, xcV_rV, e]
  rfl
theorem TSt.add {key : Nat} {x : Int} (hs : TSt P s m) (h : MP t P m q es K kk vv) (hI : Iv P) (hl : es.length < 1000) (hkey : KR t P key x) : ∃ i y P', f_J34_add P s (some key) = rI i P' ∧ PutR t P m q es K kk vv key x (P.2.2.2 4) y P' := by
  have hs : P.1 s = some (true, oB 23 [.ref m]) := hs
  obtain ⟨y, P', e, r⟩ := h.put hI hl hkey (v := P.2.2.2 4)
  unfold f_J34_add xcon
  rw [xcl1_s hs, xgR_s hs rfl]
  dsimp only
  rw [xnul_s, e, xcR_rR]
  cases y with
  | none => exact ⟨1, _, P', by rw [xnul_n, if_pos nar_z1], r⟩
  | some y => exact ⟨0, _, P', by rw [xnul_s, if_pos nar_z0], r⟩
theorem TSt.has {key : Nat} {x : Int} (hs : TSt P s m) (h : MP t P m q es K kk vv) (hI : Iv P) (ht2 : t = 0 ∨ t = 1) (hkey : KR t P key x) : f_J34_contains P s (some key) = rI (z (b2 (∃ e ∈ es, K e = x))) P := by
  have hs : P.1 s = some (true, oB 23 [.ref m]) := hs
  unfold f_J34_contains
  rw [xcl1_s hs, xgR_s hs rfl, xnul_s, h.has hI ht2 hkey, xcI_rI, if_pos]
  by_cases c : ∃ e ∈ es, K e = x
  · rw [b2, if_pos c]; exact nz1
  · rw [b2, if_neg c]; exact nz0
theorem TSt.size (hs : TSt P s m) (h : MP t P m q es K kk vv) : f_J34_size P s = rI (z es.length) P := by
  have hs : P.1 s = some (true, oB 23 [.ref m]) := hs
  unfold f_J34_size
  rw [xcl1_s hs, xgR_s hs rfl, xnul_s, h.size, xcI_rI]
/-- the view of a map's keys -/
theorem keyset_z (h : MP t P m .null es K kk vv) (hI : Iv P) : ∃ P', f_J5_navigableKeySet P m = rR (some P.2.1) P' ∧ P'.1 P.2.1 = some (true, oB 24 [.ref m]) ∧ MP t P' m (.ref P.2.1) es K kk vv ∧ Fr P.2.1 (fun a => a = m) P P' ∧ wt P' = wt P + 2 ∧ P.2.1 < P'.2.1 := by
  obtain ⟨cm, root, L, R, Pa, C, lo, hi, ⟨⟨⟨a0, a1, mc, a6, a8, h1⟩, h2⟩, h3⟩, h4, h5, h6, h7⟩ := h
  have hm := hI.lt h1
  have f1 : Fr P.2.1 (fun a => a = m) P (xpush P (oB 24 [.ref m]) 1) := Fr.push hI rfl
  have g1 := push_old hI h1 (c := oB 24 [.ref m]) (m := 1)
  have f2 := f1.trans (Fr.upo f1.iv g1 (fs' := [a0, a1, (cm, Value.null).1, va_rf root, .int (z es.length), .int mc, a6, .ref P.2.1, a8]) rfl (fun b hb => by cases hb) fun _ => rfl)
  refine ⟨xup (xpush P (oB 24 [.ref m]) 1) m (oB 15 [a0, a1, (cm, Value.null).1, va_rf root, .int (z es.length), .int mc, a6, .ref P.2.1, a8]), ?_, (up_ne (by omega)).trans push_at, ⟨cm, root, L, R, Pa, C, lo, hi, ⟨⟨⟨a0, a1, mc, a6, a8, up_at⟩, fun e he => ⟨(h2 e he).1, ?_⟩⟩, h3⟩, h4, h5, h6, fun e he => ?_⟩, f2, (wt_push (P := P) (c := oB 24 [.ref m]) (m := 1)), Nat.lt_succ_self _⟩
  · unfold f_J5_navigableKeySet f_J35_init f_J33_init f_J0_init
    rw [xcl1_s h1, xgR_n h1 rfl, xnul_n, xnew_s, show [Value.null].length = 1 from rfl, xcV_rV, xcV_rV, xpF_z push_at (by simp), up_push, xcV_rV]
    exact xpF_z g1 (by simp)
  · have h8 := (h2 e he).2
    exact (up_ne fun e1 => by rw [e1, h1] at h8; cases h8).trans (push_old hI h8)
  · obtain ⟨k, g1, g2⟩ := h7 e he
    exact ⟨k, g1, g2.fr hI f2 (kfr_1 h1 (by decide))⟩
/-- a pass over the keys -/
def KIs (P : PH) (it m : Nat) (es : List Nat) (K : Nat → Int) (os : List Nat) (i : Nat) : Prop := ∃ mc lr, KI P it m mc os[i]? lr ∧ MCnt P m mc ∧ Srt es K os
theorem keys_z {ks : Nat} (hks : P.1 ks = some (true, oB 24 [.ref m])) (h : MP t P m q es K kk vv) (hI : Iv P) {os : List Nat} (hos : Srt es K os) : ∃ P', f_J35_iterator P ks = rR (some P.2.1) P' ∧ KIs P' P.2.1 m es K os 0 ∧ Fr P.2.1 W0 P P' ∧ wt P' = wt P + 5 ∧ P.2.1 < P'.2.1 ∧ MP t P' m q es K kk vv := by
  obtain ⟨o, P', mc, e, r1, r2, r3, r4, r5, r6, r7⟩ := keyIterator_z h hI
  obtain ⟨fs, g1, -⟩ := h.cell
  rw [hos.fst (fun e he => (h.bd e he).1) r2] at r1
  refine ⟨P', ?_, ⟨mc, none, r1, r7, hos⟩, r3, r4, r5, r6⟩
  unfold f_J35_iterator
  rw [xcl1_s hks, xgR_s hks rfl, xins_s g1 (by decide), if_neg (by decide), xgR_s hks rfl, xcst_s g1 (by decide), xnul_s, e, xcR_rR]
theorem KIs.hasNext {it : Nat} {os : List Nat} {i : Nat} (h : KIs P it m es K os i) : f_J36_hasNext P it = rI (z (b2 (i < os.length))) P := by
  obtain ⟨mc, lr, h1, h2, h3⟩ := h
  rw [h1.hasNext]
  by_cases c : i < os.length
  · rw [List.getElem?_eq_getElem c, b2, b2, if_pos (by simp), if_pos c]
  · rw [List.getElem?_eq_none (by omega), b2, b2, if_neg (by simp), if_neg c]
theorem KIs.nxt {it : Nat} {os : List Nat} {i e : Nat} (hk : KIs P it m es K os i) (hi : os[i]? = some e) (h : MP t P m q es K kk vv) (hI : Iv P) : ∃ P', f_J37_next P it = rR (kk e) P' ∧ KIs P' it m es K os (i + 1) ∧ Fr P.2.1 (fun a => a = it) P P' ∧ wt P' = wt P ∧ P'.2.1 = P.2.1 ∧ MP t P' m q es K kk vv := by
  obtain ⟨mc, lr, h1, h2, h3⟩ := hk
  rw [hi] at h1
  obtain ⟨o, P', e1, r1, r2, r3, r4, r5, r6, r7⟩ := h1.next h hI h2 (h3.mem hi)
  rw [h3.next hi r2] at r1
  exact ⟨P', e1, ⟨mc, _, r1, r7, h3⟩, r3, r4, r5, r6⟩
theorem KIs.fr {P' : PH} {W : Nat → Prop} {it : Nat} {os : List Nat} {i : Nat} (h : KIs P it m es K os i) (hI : Iv P) (hf : Fr P.2.1 W P P') (hm : ¬ W m) (hw : ¬ W it) : KIs P' it m es K os i := by
  obtain ⟨mc, lr, h1, h2, h3⟩ := h
  exact ⟨mc, lr, hf.ob (hI.lt h1) h1 hw, h2.fr hI hf hm, h3⟩
/-- .. of a set -/
theorem TSt.iterator (hs : TSt P s m) (h : MP t P m .null es K kk vv) (hI : Iv P) {os : List Nat} (hos : Srt es K os) : ∃ it P' ks, f_J34_iterator P s = rR (some it) P' ∧ KIs P' it m es K os 0 ∧ Fr P.2.1 (fun a => a = m) P P' ∧ wt P' = wt P + 7 ∧ P.2.1 ≤ it ∧ MP t P' m (.ref ks) es K kk vv := by
  have hs : P.1 s = some (true, oB 23 [.ref m]) := hs
  obtain ⟨P1, e1, g1, h1, f1, w1, n1⟩ := keyset_z h hI
  obtain ⟨P2, e2, k2, f2, w2, n2, h2⟩ := keys_z g1 h1 f1.iv hos
  refine ⟨P1.2.1, P2, P.2.1, ?_, k2, Fr.call hI f1 f2 (fun a ha => ha.elim), by omega, by omega, h2⟩
  unfold f_J34_iterator
  rw [xcl1_s hs, xgR_s hs rfl, xnul_s, e1, xcR_rR, xnul_s, e2, xcR_rR]
end
