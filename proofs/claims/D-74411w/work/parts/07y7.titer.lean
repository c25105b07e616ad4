/-! TREES: ALL KEYS IN ORDER -/
set_option maxRecDepth 100000
/-- the entries by rank -/
def Srt (es : List Nat) (K : Nat → Int) (os : List Nat) : Prop := os.Perm es ∧ os.Pairwise (fun a b => K a < K b)
theorem Srt.ex {es : List Nat} {K : Nat → Int} (hn : es.Nodup) (hK : ∀ a ∈ es, ∀ b ∈ es, K a = K b → a = b) : ∃ os, Srt es K os := by
  have hp := List.mergeSort_perm es (fun a b => decide (K a ≤ K b))
  have h1 : (es.mergeSort (fun a b => decide (K a ≤ K b))).Pairwise (fun a b => decide (K a ≤ K b) = true) := List.pairwise_mergeSort (fun a b c h1 h2 => by simp only [decide_eq_true_eq] at *; omega) (fun a b => by simp only [Bool.or_eq_true, decide_eq_true_eq]; omega) es
  have h2 : (es.mergeSort (fun a b => decide (K a ≤ K b))).Nodup := hp.nodup_iff.mpr hn
  refine ⟨_, hp, (List.Pairwise.and h1 h2).imp_of_mem fun {a b} ha hb h => ?_⟩
  have h3 := h.1
  simp only [decide_eq_true_eq] at h3
  have h4 : K a ≠ K b := fun e => h.2 (hK a (hp.mem_iff.mp ha) b (hp.mem_iff.mp hb) e)
  omega
theorem Srt.lt {es os : List Nat} {K : Nat → Int} (h : Srt es K os) {i j a b : Nat} (hi : os[i]? = some a) (hj : os[j]? = some b) (hij : i < j) : K a < K b := by
  have hj' := (List.getElem?_eq_some_iff.mp hj).choose
  have h1 := List.pairwise_iff_getElem.mp h.2 i j (by omega) hj' hij
  rw [(List.getElem?_eq_some_iff.mp hj).choose_spec, (List.getElem?_eq_some_iff.mp hi).choose_spec] at h1
  exact h1
theorem Srt.mem {es os : List Nat} {K : Nat → Int} (h : Srt es K os) {i a : Nat} (hi : os[i]? = some a) : a ∈ es := h.1.mem_iff.mp (List.mem_of_getElem? hi)
theorem Srt.ix {es os : List Nat} {K : Nat → Int} (h : Srt es K os) {a : Nat} (ha : a ∈ es) : ∃ i : Nat, os[i]? = some a := by
  obtain ⟨i, h1, h2⟩ := List.mem_iff_getElem.mp (h.1.mem_iff.mpr ha)
  exact ⟨i, by rw [List.getElem?_eq_getElem h1, h2]⟩
theorem Srt.next {es os : List Nat} {K : Nat → Int} (h : Srt es K os) {i e : Nat} (hi : os[i]? = some e) {o : Option Nat} (hr : NextR es K (K e) o) : o = os[i + 1]? := by
  rcases hr with ⟨s, rfl, hs, h1, h2⟩ | ⟨rfl, h1⟩
  · obtain ⟨j, hj⟩ := h.ix hs
    have h3 : i < j := by
      rcases Nat.lt_trichotomy i j with h3 | h3 | h3
      · exact h3
      · subst h3; rw [hi] at hj; cases hj; omega
      · have := h.lt hj hi h3; omega
    by_cases h4 : j = i + 1
    · rw [← h4, hj]
    · have hjl := (List.getElem?_eq_some_iff.mp hj).choose
      have h5 : os[i + 1]? = some os[i + 1] := List.getElem?_eq_getElem (by omega)
      exact absurd ⟨h.lt hi h5 (by omega), h.lt h5 hj (by omega)⟩ (h2 _ (h.mem h5))
  · cases h2 : os[i + 1]? with
    | none => rfl
    | some s =>
      have := h1 s (h.mem h2)
      have := h.lt hi h2 (by omega)
      omega
theorem Srt.fst {es os : List Nat} {K : Nat → Int} (h : Srt es K os) {A : Int} (hA : ∀ e ∈ es, A < K e) {o : Option Nat} (hr : NextR es K A o) : o = os[0]? := by
  rcases hr with ⟨s, rfl, hs, h1, h2⟩ | ⟨rfl, h1⟩
  · obtain ⟨j, hj⟩ := h.ix hs
    by_cases h4 : j = 0
    · rw [← h4, hj]
    · have hjl := (List.getElem?_eq_some_iff.mp hj).choose
      have h5 : os[0]? = some os[0] := List.getElem?_eq_getElem (by omega)
      exact absurd ⟨hA _ (h.mem h5), h.lt h5 hj (by omega)⟩ (h2 _ (h.mem h5))
  · cases h2 : os[0]? with
    | none => rfl
    | some s =>
      have := h1 s (h.mem h2)
      have := hA s (h.mem h2)
      omega
section
variable {t : Nat} {P : PH} {m : Nat} {q : Value} {es : List Nat} {K : Nat → Int} {kk vv : Nat → Option Nat}
theorem MP.srt (h : MP t P m q es K kk vv) : ∃ os, Srt es K os := by
  obtain ⟨cm, root, L, R, Pa, C, lo, hi, ht, hr, ⟨hn, hl⟩, hC, hk⟩ := h
  exact Srt.ex hn fun a ha b hb e => ht.2.2.2.2.2.2.2.2.2.2.1 a b ha hb e
theorem MP.bd (h : MP t P m q es K kk vv) : ∀ e ∈ es, -TB < K e ∧ K e < TB := by
  obtain ⟨cm, root, L, R, Pa, C, lo, hi, ht, hr, ⟨hn, hl⟩, hC, hk⟩ := h
  intro e he
  obtain ⟨k, h1, h2⟩ := hk e he
  have := h2.bd
  unfold TB
  omega
theorem MP.key (h : MP t P m q es K kk vv) {e : Nat} (he : e ∈ es) : ∃ k, kk e = some k ∧ KR t P k (K e) := by
  obtain ⟨cm, root, L, R, Pa, C, lo, hi, ht, hr, ⟨hn, hl⟩, hC, hk⟩ := h
  exact hk e he
theorem MP.inj (h : MP t P m q es K kk vv) {a b : Nat} (ha : a ∈ es) (hb : b ∈ es) (e : K a = K b) : a = b := by
  obtain ⟨cm, root, L, R, Pa, C, lo, hi, ht, hr, ⟨hn, hl⟩, hC, hk⟩ := h
  exact ht.2.2.2.2.2.2.2.2.2.2.1 a b ha hb e
theorem MP.len (h : MP t P m q es K kk vv) : es.length ≤ 1000 := by
  obtain ⟨cm, root, L, R, Pa, C, lo, hi, ht, hr, ⟨hn, hl⟩, hC, hk⟩ := h
  exact hl
/-- how often a map was changed -/
def MCnt (P : PH) (m : Nat) (mc : Int32) : Prop := ∃ w fs, P.1 m = some (w, oB 15 fs) ∧ fs[5]? = some (.int mc)
theorem MP.mc (h : MP t P m q es K kk vv) : ∃ mc, MCnt P m mc := by
  obtain ⟨cm, root, L, R, Pa, C, lo, hi, ⟨⟨⟨a0, a1, mc, a6, a8, h1⟩, h2⟩, h3⟩, h4⟩ := h
  exact ⟨mc, _, _, h1, rfl⟩
theorem MP.cell (h : MP t P m q es K kk vv) : ∃ fs, P.1 m = some (true, oB 15 fs) ∧ fs[7]? = some q ∧ 7 < fs.length := by
  obtain ⟨cm, root, L, R, Pa, C, lo, hi, ⟨⟨⟨a0, a1, mc, a6, a8, h1⟩, h2⟩, h3⟩, h4⟩ := h
  exact ⟨_, h1, rfl, by simp⟩
theorem MP.ent (h : MP t P m q es K kk vv) {e : Nat} (he : e ∈ es) : ∃ fs, P.1 e = some (true, oB 19 fs) := by
  obtain ⟨cm, root, L, R, Pa, C, lo, hi, ⟨⟨⟨a0, a1, mc, a6, a8, h1⟩, h2⟩, h3⟩, h4⟩ := h
  exact ⟨_, (h2 e he).2⟩
theorem MP.fr {P' : PH} {W : Nat → Prop} (h : MP t P m q es K kk vv) (hI : Iv P) (hf : Fr P.2.1 W P P') (hW : kfr P W) (hm : ¬ W m) (hes : ∀ e ∈ es, ¬ W e) : MP t P' m q es K kk vv := by
  obtain ⟨cm, root, L, R, Pa, C, lo, hi, ⟨⟨⟨a0, a1, mc, a6, a8, h1⟩, h2⟩, h3⟩, h4, h5, h6, h7⟩ := h
  refine ⟨cm, root, L, R, Pa, C, lo, hi, ⟨⟨⟨a0, a1, mc, a6, a8, hf.ob (hI.lt h1) h1 hm⟩, fun e he => ⟨(h2 e he).1, hf.ob (hI.lt (h2 e he).2) (h2 e he).2 (hes e he)⟩⟩, h3⟩, h4, h5, ⟨h6.1, fun h => ?_, h6.2.2⟩, fun e he => ?_⟩
  · rw [hf.con]
    exact h6.2.1 h
  · obtain ⟨k, g1, g2⟩ := h7 e he
    exact ⟨k, g1, g2.fr hI hf hW⟩
theorem MCnt.fr {P' : PH} {W : Nat → Prop} {mc : Int32} (h : MCnt P m mc) (hI : Iv P) (hf : Fr P.2.1 W P P') (hm : ¬ W m) : MCnt P' m mc := by
  obtain ⟨w, fs, h1, h2⟩ := h
  exact ⟨w, fs, hf.ob (hI.lt h1) h1 hm, h2⟩
/-- an iterator's cell -/
def KI (P : PH) (it m : Nat) (mc : Int32) (o lr : Option Nat) : Prop := P.1 it = some (true, oB 25 [va_rf o, va_rf lr, .int mc, .ref m])
theorem kfr_1 {a c : Nat} {w : Bool} {fs : List Value} (h : P.1 a = some (w, oB c fs)) (hc : c ≠ 11 ∧ c ≠ 16 ∧ c ≠ 18) : kfr P (fun q => q = a) := by
  intro b hb w' x hx
  have hb : b = a := hb
  rw [hb, h] at hx
  cases hx
  exact ⟨_, _, rfl, hc⟩
theorem kfr_0 : kfr P W0 := fun _ h => h.elim
/-- KeyIterator.next -/
theorem KI.next {it : Nat} {mc : Int32} {e : Nat} {lr : Option Nat} (hk : KI P it m mc (some e) lr) (h : MP t P m q es K kk vv) (hI : Iv P) (hmc : MCnt P m mc) (he : e ∈ es) : ∃ o P', f_J37_next P it = rR (kk e) P' ∧ KI P' it m mc o (some e) ∧ NextR es K (K e) o ∧ Fr P.2.1 (fun a => a = it) P P' ∧ wt P' = wt P ∧ P'.2.1 = P.2.1 ∧ MP t P' m q es K kk vv ∧ MCnt P' m mc := by
  obtain ⟨w, fs, g1, g2⟩ := id hmc
  obtain ⟨o, e1, hr⟩ := h.succ he
  have hk : P.1 it = some (true, oB 25 [.ref e, va_rf lr, .int mc, .ref m]) := hk
  have s1 : Fr P.2.1 (fun a => a = it) P (xup P it (oB 25 [va_rf o, va_rf lr, .int mc, .ref m])) := Fr.upo hI hk rfl (fun b hb => by cases hb) fun _ => rfl
  have s2 : Fr P.2.1 (fun a => a = it) P (xup (xup P it (oB 25 [va_rf o, va_rf lr, .int mc, .ref m])) it (oB 25 [va_rf o, .ref e, .int mc, .ref m])) := s1.trans (Fr.upo s1.iv up_at rfl (fun b hb => by cases hb) fun _ => rfl)
  have hne : m ≠ it := fun e => by rw [e, hk] at g1; cases g1
  have hms := h.fr hI s2 (kfr_1 hk (by decide)) hne fun e' he' e2 => by
    obtain ⟨fs, g3⟩ := h.ent he'
    rw [e2, hk] at g3
    cases g3
  refine ⟨o, _, ?_, up_at, hr, s2, rfl, rfl, hms, hmc.fr hI s2 hne⟩
  unfold f_J37_next f_J36_nextEntry
  rw [xcl1_s hk, xcl1_s hk, xgR_s hk rfl, xnul_s, xgR_s hk rfl, xnul_s, xgI_s g1 g2, xgI_s hk rfl, if_pos rfl, e1, xcR_rR, xpF_z hk (by simp), xpF_z up_at (by simp), xcR_rR, xnul_s]
  exact hms.gkk he
theorem KI.hasNext {it : Nat} {mc : Int32} {o lr : Option Nat} (hk : KI P it m mc o lr) : f_J36_hasNext P it = rI (z (b2 (o ≠ none))) P := by
  have hk : P.1 it = some (true, oB 25 [va_rf o, va_rf lr, .int mc, .ref m]) := hk
  unfold f_J36_hasNext
  rw [xcl1_s hk, xgR_v (k := 0) hk rfl]
  cases o with
  | none => rw [xnul_n, if_pos nar_z0]; rfl
  | some e => rw [xnul_s, if_pos nar_z1]; rfl
/-- .. its making -/
theorem keyIterator_z (h : MP t P m q es K kk vv) (hI : Iv P) : ∃ o P' mc, f_J5_keyIterator P m = rR (some P.2.1) P' ∧ KI P' P.2.1 m mc o none ∧ NextR es K (-TB) o ∧ Fr P.2.1 W0 P P' ∧ wt P' = wt P + 5 ∧ P.2.1 < P'.2.1 ∧ MP t P' m q es K kk vv ∧ MCnt P' m mc := by
  obtain ⟨mc, hmc⟩ := h.mc
  have f1 : Fr P.2.1 W0 P (xpush P (oB 25 [.null, .null, .int 0, .null]) 4) := Fr.push hI rfl
  have h1 := h.fr hI f1 kfr_0 (fun h => h) fun _ _ h => h
  have m1 := hmc.fr hI f1 fun h => h
  obtain ⟨o, e1, hr⟩ := h1.first
  have f2 : Fr P.2.1 W0 P (xpush P (oB 25 [va_rf o, va_rf none, .int mc, .ref m]) 4) := Fr.push hI rfl
  have h2 := h.fr hI f2 kfr_0 (fun h => h) fun _ _ h => h
  have m2 := hmc.fr hI f2 fun h => h
  refine ⟨o, _, mc, ?_, push_at, hr, f2, wt_push, Nat.lt_succ_self _, h2, m2⟩
  obtain ⟨w, fs, g1, g2⟩ := hmc
  unfold f_J5_keyIterator f_J37_init f_J36_init
  rw [h.cl, xnew_s, show [Value.null, Value.null, Value.int 0, Value.null].length = 4 from rfl, e1, xcR_rR, xpF_z push_at (by simp), up_push, xnul_s, xgI_s (push_old hI g1) g2, xpF_z push_at (by simp), up_push, xpF_z push_at (by simp), up_push, xpF_z push_at (by simp), up_push]
  rfl
end
