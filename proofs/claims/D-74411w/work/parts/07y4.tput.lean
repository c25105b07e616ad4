/-! AN ENTRY IS PUT INTO A TREE -/
set_option maxRecDepth 100000
section
variable {n0 m : Nat} {P : PH} {cmp : Value × Value} {root : Option Nat} {sz : Int32} {S : Nat → Prop} {kk vv L R Pa : Nat → Option Nat} {C : Nat → Int32}
theorem TZ.gsz (h : TZ P m cmp root sz S kk vv L R Pa C) {α : Type} {K : Int32 → Option α} : xgI P m 15 4 K = K sz := by
  obtain ⟨⟨a0, a1, mc, a6, a8, h1⟩, h2⟩ := h
  exact xgI_s (k := 4) h1 rfl
theorem TZ.wsz (h : TZ P m cmp root sz S kk vv L R Pa C) (hI : Iv P) (x : Int32) : ∃ P', (∀ {α : Type} (K : PH → Option α), xpF P m 15 4 (.int x) K = K P') ∧ TZ P' m cmp root x S kk vv L R Pa C ∧ TStep n0 m S P P' := by
  have hne := fun e (he : S e) => h.ne he
  obtain ⟨⟨a0, a1, mc, a6, a8, h1⟩, h2⟩ := h
  refine ⟨_, fun K => xpF_z h1 (by simp), ⟨⟨a0, a1, mc, a6, a8, up_at⟩, fun e he => ?_⟩, Fr.upo hI h1 rfl (fun b hb => by cases hb) fun _ => Or.inl rfl, rfl, rfl⟩
  exact ⟨(h2 e he).1, (up_ne (hne e he)).trans (h2 e he).2⟩
theorem TZ.mcnt (h : TZ P m cmp root sz S kk vv L R Pa C) (hI : Iv P) : ∃ P', (∀ {α : Type} (K : PH → Option α), (xgI P m 15 5 fun x => xpF P m 15 5 (.int (x + 1)) K) = K P') ∧ TZ P' m cmp root sz S kk vv L R Pa C ∧ TStep n0 m S P P' := by
  have hne := fun e (he : S e) => h.ne he
  obtain ⟨⟨a0, a1, mc, a6, a8, h1⟩, h2⟩ := h
  refine ⟨_, fun K => (xgI_s (k := 5) h1 rfl).trans (xpF_z h1 (by simp)), ⟨⟨a0, a1, mc + 1, a6, a8, up_at⟩, fun e he => ?_⟩, Fr.upo hI h1 rfl (fun b hb => by cases hb) fun _ => Or.inl rfl, rfl, rfl⟩
  exact ⟨(h2 e he).1, (up_ne (hne e he)).trans (h2 e he).2⟩
/-- a new cell -/
theorem TZ.push (h : TZ P m cmp root sz S kk vv L R Pa C) (hI : Iv P) {k v pa : Option Nat} : TZ (xpush P (oB 19 [va_rf k, va_rf v, .null, .null, va_rf pa, .int (z 1)]) 6) m cmp root sz (fun a => S a ∨ a = P.2.1) (updO kk P.2.1 k) (updO vv P.2.1 v) (updO L P.2.1 none) (updO R P.2.1 none) (updO Pa P.2.1 pa) (updI C P.2.1 (z 1)) := by
  obtain ⟨⟨a0, a1, mc, a6, a8, h1⟩, h2⟩ := h
  refine ⟨⟨a0, a1, mc, a6, a8, push_old hI h1⟩, fun e he => ?_⟩
  rcases he with he | rfl
  · obtain ⟨h3, h4⟩ := h2 e he
    have hne : e ≠ P.2.1 := by have := hI.lt h4; omega
    refine ⟨by simpa only [updI, hne, ↓reduceIte] using h3, (push_old hI h4).trans ?_⟩
    simp only [updO, updI, hne, ↓reduceIte]
  · refine ⟨Or.inr (by simp only [updI, ↓reduceIte]), push_at.trans ?_⟩
    simp only [updO, updI, ↓reduceIte, va_rf]
end
/-- an entry's making -/
theorem ent_init {P : PH} (k v pa : Option Nat) : f_J23_init (xpush P (oB 19 [.null, .null, .null, .null, .null, .int 0]) 6) P.2.1 k v pa = rV (xpush P (oB 19 [va_rf k, va_rf v, .null, .null, va_rf pa, .int (z 1)]) 6) := by
  unfold f_J23_init
  rw [xpF_z push_at (by simp), up_push, xpF_z push_at (by simp), up_push, xpF_z push_at (by simp), up_push, xpF_z push_at (by simp), up_push]
  rfl
def TB : Int := 1000000000000
/-- a sorted map: entries, their ranks, keys, values -/
def MP (t : Nat) (P : PH) (m : Nat) (q : Value) (es : List Nat) (K : Nat → Int) (kk vv : Nat → Option Nat) : Prop := ∃ cm root L R Pa C lo hi, TT P m (cm, q) root (z es.length) (fun a => a ∈ es) K kk vv L R Pa C lo hi (-TB) TB ∧ (∀ rt, root = some rt → C rt = z 1) ∧ (es.Nodup ∧ es.length ≤ 1000) ∧ KC t P cm ∧ ∀ e ∈ es, ∃ k, kk e = some k ∧ KR t P k (K e)
def TWl (m : Nat) (es : List Nat) : Nat → Prop := TW m (fun a => a ∈ es)
theorem TZ.kfr {P : PH} {m : Nat} {cm q : Value} {root : Option Nat} {sz : Int32} {S : Nat → Prop} {kk vv L R Pa : Nat → Option Nat} {C : Nat → Int32} (h : TZ P m (cm, q) root sz S kk vv L R Pa C) : kfr P (TW m S) := by
  intro a ha w x hx
  obtain ⟨⟨a0, a1, mc, a6, a8, h1⟩, h2⟩ := h
  rcases ha with rfl | ha
  · rw [h1] at hx
    cases hx
    exact ⟨_, _, rfl, by decide⟩
  · rw [(h2 a ha).2] at hx
    cases hx
    exact ⟨_, _, rfl, by decide⟩
/-- what a put does -/
def PutR (t : Nat) (P : PH) (m : Nat) (q : Value) (es : List Nat) (K : Nat → Int) (kk vv : Nat → Option Nat) (key : Nat) (x : Int) (v o : Option Nat) (P' : PH) : Prop := Fr P.2.1 (TWl m es) P P' ∧ ((∃ e, e ∈ es ∧ K e = x ∧ o = vv e ∧ MP t P' m q es K kk (updO vv e v) ∧ wt P' = wt P ∧ P'.2.1 = P.2.1) ∨ ((∀ e ∈ es, K e ≠ x) ∧ o = none ∧ MP t P' m q (P.2.1 :: es) (updZ K P.2.1 x) (updO kk P.2.1 (some key)) (updO vv P.2.1 v) ∧ wt P' = wt P + 7 ∧ P.2.1 ≤ P'.2.1))
theorem mem_cons_fun {b : Nat} {es : List Nat} : (fun a => a ∈ es ∨ a = b) = (fun a => a ∈ b :: es) := by
  funext a
  exact propext ⟨fun h => h.elim (fun h => List.mem_cons_of_mem _ h) (fun h => h ▸ List.mem_cons_self ..), fun h => (List.mem_cons.mp h).elim Or.inr Or.inl⟩
/-- from the new cell on -/
theorem add32 {t : Nat} {P P1 : PH} {m : Nat} {es : List Nat} {K : Nat → Int} {kk vv : Nat → Option Nat} {key b : Nat} {x : Int} {v : Option Nat} {cm q : Value} {root : Option Nat} {L R Pa : Nat → Option Nat} {C : Nat → Int32} {lo hi : Nat → Int} (hI1 : Iv P1) (h : TT P1 m (cm, q) root (z es.length) (fun a => a ∈ b :: es) K kk vv L R Pa C lo hi (-TB) TB) (hl : es.length < 1000) (hrt : ∀ rt, root = some rt → rt = b ∨ C rt = z 1) : ∃ P', f_J5_addEntry_32 m b P1 = rV P' ∧ TStep P1.2.1 m (fun a => a ∈ b :: es) P1 P' ∧ ∃ root L R Pa C lo hi, TT P' m (cm, q) root (z (b :: es).length) (fun a => a ∈ b :: es) K kk vv L R Pa C lo hi (-TB) TB ∧ ∀ rt, root = some rt → C rt = z 1 := by
  obtain ⟨P2, e2, s2, root2, L2, R2, Pa2, C2, lo2, hi2, t2, r2⟩ := fix_ins (n0 := P1.2.1) (es := b :: es) (fun e he => he) (by simp only [List.length_cons]; omega) h hI1 (x := b) (List.mem_cons_self ..) hrt
  obtain ⟨P3, e3, t3, s3⟩ := t2.1.wsz (n0 := P1.2.1) s2.1.iv (z es.length + 1)
  obtain ⟨P4, e4, t4, s4⟩ := t3.mcnt (n0 := P1.2.1) s3.1.iv
  refine ⟨P4, ?_, s2.trans (s3.trans s4), root2, L2, R2, Pa2, C2, lo2, hi2, ⟨?_, t2.2⟩, r2⟩
  · unfold f_J5_addEntry_32
    rw [e2, xcV_rV, t2.1.gsz, e3, e4]
  · have e : z es.length + 1 = z (b :: es).length := by
      rw [l1, z_add]
      rfl
    exact e ▸ t4
theorem addfin {t : Nat} {P P2 : PH} {m : Nat} {es : List Nat} {K : Nat → Int} {kk vv : Nat → Option Nat} {key : Nat} {x : Int} {v : Option Nat} {cm q : Value} {root : Option Nat} {L R Pa : Nat → Option Nat} {C : Nat → Int32} {lo hi : Nat → Int} (hI : Iv P) (hkey : KR t P key x) (hC : KC t P cm) (hk : ∀ e ∈ es, ∃ k, kk e = some k ∧ KR t P k (K e)) (hkf : kfr P (TWl m es)) (hn : es.Nodup) (hlt : ∀ e ∈ es, e < P.2.1) (hl : es.length < 1000) (hf : Fr P.2.1 (TWl m es) P P2) (hw : wt P2 = wt P + 7) (h : TT P2 m (cm, q) root (z es.length) (fun a => a ∈ P.2.1 :: es) (updZ K P.2.1 x) (updO kk P.2.1 (some key)) (updO vv P.2.1 v) L R Pa C lo hi (-TB) TB) (hrt : ∀ rt, root = some rt → rt = P.2.1 ∨ C rt = z 1) : ∃ P', f_J5_addEntry_32 m P.2.1 P2 = rV P' ∧ Fr P.2.1 (TWl m es) P P' ∧ MP t P' m q (P.2.1 :: es) (updZ K P.2.1 x) (updO kk P.2.1 (some key)) (updO vv P.2.1 v) ∧ wt P' = wt P + 7 ∧ P.2.1 ≤ P'.2.1 := by
  have hb : P.2.1 ∉ es := fun hm => by have := hlt _ hm; omega
  obtain ⟨P3, e3, s3, root3, L3, R3, Pa3, C3, lo3, hi3, t3, r3⟩ := add32 (t := t) (P := P) (key := key) (x := x) (v := v) hf.iv h hl hrt
  have hf3 : Fr P.2.1 (TWl m es) P P3 := Fr.call hI hf s3.1 fun a ha => by
    rcases ha with ha | ha
    · exact Or.inl (Or.inl ha)
    · rcases List.mem_cons.mp ha with ha | ha
      · exact Or.inr (by omega)
      · exact Or.inl (Or.inr ha)
  refine ⟨P3, e3, hf3, ⟨cm, root3, L3, R3, Pa3, C3, lo3, hi3, t3, r3, ⟨List.nodup_cons.mpr ⟨hb, hn⟩, by simp only [List.length_cons]; omega⟩, ⟨hC.1, fun h2 => ?_, hC.2.2⟩, fun e he => ?_⟩, s3.2.1.trans hw, ?_⟩
  · rw [hf3.con]
    exact hC.2.1 h2
  · by_cases e1 : e = P.2.1
    · subst e1
      exact ⟨key, by simp only [updO, ↓reduceIte], by simpa only [updZ, ↓reduceIte] using hkey.fr hI hf3 hkf⟩
    · obtain ⟨k, h1, h2⟩ := hk e ((List.mem_cons.mp he).resolve_left e1)
      exact ⟨k, by simpa only [updO, e1, ↓reduceIte] using h1, by simpa only [updZ, e1, ↓reduceIte] using h2.fr hI hf3 hkf⟩
  · exact hf3.next
theorem MP.lt {t : Nat} {P : PH} {m : Nat} {q : Value} {es : List Nat} {K : Nat → Int} {kk vv : Nat → Option Nat} (h : MP t P m q es K kk vv) (hI : Iv P) : ∀ e ∈ es, e < P.2.1 := by
  obtain ⟨cm, root, L, R, Pa, C, lo, hi, ht, h2⟩ := h
  exact fun e he => hI.lt (ht.1.2 e he).2
section
variable {t : Nat} {P : PH} {m : Nat} {es : List Nat} {K : Nat → Int} {kk vv : Nat → Option Nat} {key : Nat} {x : Int} {v : Option Nat} {cm q : Value} {root : Option Nat} {L R Pa : Nat → Option Nat} {C : Nat → Int32} {lo hi : Nat → Int}
/-- a new cell below e -/
theorem addnew (ht : TT P m (cm, q) root (z es.length) (fun a => a ∈ es) K kk vv L R Pa C lo hi (-TB) TB) (hr : ∀ rt, root = some rt → C rt = z 1) (hI : Iv P) (hkey : KR t P key x) (hC : KC t P cm) (hk : ∀ e ∈ es, ∃ k, kk e = some k ∧ KR t P k (K e)) (hn : es.Nodup) (hl : es.length < 1000) {e : Nat} (he : e ∈ es) (fl : Int32) (hs : (fl = z 1 ∧ L e = none ∧ lo e < x ∧ x < K e) ∨ (fl = z 0 ∧ R e = none ∧ K e < x ∧ x < hi e)) : ∃ P', f_J5_addEntry P m (some key) v (some e) fl = rV P' ∧ PutR t P m q es K kk vv key x v none P' := by
  have hlt : ∀ e ∈ es, e < P.2.1 := fun e he => hI.lt (ht.1.2 e he).2
  have hb : P.2.1 ∉ es := fun hm => by have := hlt _ hm; omega
  have hne : ∀ e ∈ es, K e ≠ x := by
    intro s hs' h5
    rcases hs with ⟨-, h1, h2, h3⟩ | ⟨-, h1, h2, h3⟩
    · exact ht.2.2.2.2.2.2.1 e s he h1 hs' ⟨by omega, by omega⟩
    · exact ht.2.2.2.2.2.2.2.1 e s he h1 hs' ⟨by omega, by omega⟩
  have hx := hkey.bd
  have tp := ht.1.push hI (k := some key) (v := v) (pa := some e)
  have fp : Fr P.2.1 (TWl m es) P (xpush P (oB 19 [va_rf (some key), va_rf v, .null, .null, va_rf (some e), .int (z 1)]) 6) := Fr.push hI rfl
  have wp : wt (xpush P (oB 19 [va_rf (some key), va_rf v, .null, .null, va_rf (some e), .int (z 1)]) 6) = wt P + 7 := wt_push
  unfold f_J5_addEntry
  rw [ht.1.cl, xnew_s, show [Value.null, Value.null, Value.null, Value.null, Value.null, Value.int 0].length = 6 from rfl, ent_init, xcV_rV, xnul_s, xnul_s]
  rcases hs with ⟨rfl, h1, h2, h3⟩ | ⟨rfl, h1, h2, h3⟩
  · rw [if_neg (by decide)]
    obtain ⟨P2, e2, t2, s2⟩ := tp.wL (n0 := (xpush P (oB 19 [va_rf (some key), va_rf v, .null, .null, va_rf (some e), .int (z 1)]) 6).2.1) fp.iv (e := e) (Or.inl he) (some P.2.1)
    have ti := ht.2.insL (b := P.2.1) he h1 hb h2 h3
    have hrt : ∀ rt, root = some rt → rt = P.2.1 ∨ updI C P.2.1 (z 1) rt = z 1 := fun rt h4 => by
      by_cases e1 : rt = P.2.1
      · exact Or.inl e1
      · exact Or.inr ((updI_o e1).trans (hr rt h4))
    have hf2 : Fr P.2.1 (TWl m es) P P2 := Fr.call hI fp s2.1 fun a ha => ha.elim (fun h => Or.inl (Or.inl h)) fun h => h.elim (fun h => Or.inl (Or.inr h)) fun h => Or.inr (by omega)
    have hT := And.intro t2 ti
    rw [mem_cons_fun] at hT
    obtain ⟨P3, e3, r3⟩ := addfin hI hkey hC hk ht.1.kfr hn hlt hl hf2 (s2.2.1.trans wp) hT hrt
    refine ⟨P3, (e2 _).trans e3, r3.1, Or.inr ⟨hne, rfl, r3.2.1, r3.2.2⟩⟩
  · rw [if_pos (show z 0 = 0 from rfl)]
    obtain ⟨P2, e2, t2, s2⟩ := tp.wR (n0 := (xpush P (oB 19 [va_rf (some key), va_rf v, .null, .null, va_rf (some e), .int (z 1)]) 6).2.1) fp.iv (e := e) (Or.inl he) (some P.2.1)
    have ti := ht.2.insR (b := P.2.1) he h1 hb h2 h3
    have hrt : ∀ rt, root = some rt → rt = P.2.1 ∨ updI C P.2.1 (z 1) rt = z 1 := fun rt h4 => by
      by_cases e1 : rt = P.2.1
      · exact Or.inl e1
      · exact Or.inr ((updI_o e1).trans (hr rt h4))
    have hf2 : Fr P.2.1 (TWl m es) P P2 := Fr.call hI fp s2.1 fun a ha => ha.elim (fun h => Or.inl (Or.inl h)) fun h => h.elim (fun h => Or.inl (Or.inr h)) fun h => Or.inr (by omega)
    have hT := And.intro t2 ti
    rw [mem_cons_fun] at hT
    obtain ⟨P3, e3, r3⟩ := addfin hI hkey hC hk ht.1.kfr hn hlt hl hf2 (s2.2.1.trans wp) hT hrt
    refine ⟨P3, (e2 _).trans e3, r3.1, Or.inr ⟨hne, rfl, r3.2.1, r3.2.2⟩⟩
/-- one step of a search for a place -/
def StepF (P : PH) (m : Nat) (kk vv L R : Nat → Option Nat) (K : Nat → Int) (es : List Nat) (key : Nat) (x : Int) (v r : Option Nat) (F : (Option Nat × Option Nat × Int32 × Option Nat × Option Nat × PH → Option (xO × PH)) → Option Nat × Option Nat × Int32 × Option Nat × Option Nat × PH → Option (xO × PH)) : Prop := ∀ kf (e : Nat) (Q : Option Value → PH → Prop), e ∈ es → (x < K e → ∀ l, L e = some l → OK (kf (some key, v, 1, some l, r, P)) Q) → (x < K e → L e = none → OK (xcV (f_J5_addEntry P m (some key) v (some e) 1) fun p => rR none p) Q) → (K e < x → ∀ l, R e = some l → OK (kf (some key, v, 1, some l, r, P)) Q) → (K e < x → R e = none → OK (xcV (f_J5_addEntry P m (some key) v (some e) 0) fun p => rR none p) Q) → (K e = x → OK (xpF P e 19 1 (va_rf v) fun p => rR (vv e) p) Q) → OK (F kf (some key, v, 1, some e, r, P)) Q
theorem step_put {kf : Option Nat × Option Nat × Int32 × Option Nat × Option Nat × PH → Option (xO × PH)} {Q : Option Value → PH → Prop} {e : Nat} {c : Int32} {r : Option Nat} (ht : TZ P m (cm, q) root (z es.length) (fun a => a ∈ es) kk vv L R Pa C) (he : e ∈ es) (hc : sgq c x (K e)) (h1 : x < K e → ∀ l, L e = some l → OK (kf (some key, v, 1, some l, r, P)) Q) (h2 : x < K e → L e = none → OK (xcV (f_J5_addEntry P m (some key) v (some e) 1) fun p => rR none p) Q) (h3 : K e < x → ∀ l, R e = some l → OK (kf (some key, v, 1, some l, r, P)) Q) (h4 : K e < x → R e = none → OK (xcV (f_J5_addEntry P m (some key) v (some e) 0) fun p => rR none p) Q) (h5 : K e = x → OK (xpF P e 19 1 (va_rf v) fun p => rR (vv e) p) Q) : OK (if 0 ≤ c then (if c ≤ 0 then (xgR P e 19 1 fun x16 => xpF P e 19 1 (va_rf v) fun p => rR x16 p) else (xgR P e 19 3 fun x20 => xnul x20 (if 0 ≤ c then (xcV (f_J5_addEntry P m (some key) v (some e) 0) fun p => rR none p) else (xcV (f_J5_addEntry P m (some key) v (some e) 1) fun p => rR none p)) fun b => kf (some key, v, 1, some b, r, P))) else (xgR P e 19 2 fun x20 => xnul x20 (if 0 ≤ c then (xcV (f_J5_addEntry P m (some key) v (some e) 0) fun p => rR none p) else (xcV (f_J5_addEntry P m (some key) v (some e) 1) fun p => rR none p)) fun b => kf (some key, v, 1, some b, r, P))) Q := by
  obtain ⟨i, rfl, ⟨i1, i2⟩, i3, i4⟩ := hc
  simp (disch := omega) only [show (0 : Int32) = z 0 from rfl, zle]
  rw [ht.gL he, ht.gR he, ht.gvv he]
  refine ok_ite (fun c1 => ok_ite (fun c2 => h5 (by omega)) fun c2 => ?_) fun c1 => ?_
  · cases hR : R e with
    | none => rw [xnul_n, if_pos c1]; exact h4 (by omega) hR
    | some l => exact h3 (by omega) l hR
  · cases hR : L e with
    | none => rw [xnul_n, if_neg c1]; exact h2 (by omega) hR
    | some l => exact h1 (by omega) l hR
end
