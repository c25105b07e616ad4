/-! PUT: THE SEARCH -/
set_option maxRecDepth 100000
section
variable {t : Nat} {P : PH} {m : Nat} {es : List Nat} {K : Nat → Int} {kk vv : Nat → Option Nat} {key : Nat} {x : Int} {v : Option Nat} {cm q : Value} {root : Option Nat} {L R Pa : Nat → Option Nat} {C : Nat → Int32} {lo hi : Nat → Int}
theorem KR.c0 (h : KR 0 P key x) : ∃ w fs, P.1 key = some (w, oB 18 fs) := by
  obtain ⟨w, h1, h2⟩ := h
  exact ⟨_, _, h1⟩
theorem KR.c1 (h : KR 1 P key x) : ∃ w fs, P.1 key = some (w, oB 16 fs) := by
  obtain ⟨n, l, ⟨q, fs, f, -, h1, h2, h3⟩, h4⟩ := h
  exact ⟨_, _, h1⟩
theorem stepF01 (ht01 : t = 0 ∨ t = 1) (ht : TZ P m (cm, q) root (z es.length) (fun a => a ∈ es) kk vv L R Pa C) (hkey : KR t P key x) (hk : ∀ e ∈ es, ∃ k, kk e = some k ∧ KR t P k (K e)) : StepF P m kk vv L R K es key x v (some key) (f_J5_put_2_123F m) := by
  intro kf e Q he h1 h2 h3 h4 h5
  obtain ⟨k, hke, hkk⟩ := hk e he
  have e0 : ¬ ((1 : Int32) = 0) := by decide
  simp only [f_J5_put_2_123F, f_J5_put_2_187, f_J5_put_2_196, f_J5_put_2_201, f_J5_put_2_216, xnul_s, e0, ↓reduceIte]
  rw [ht.gkk he, hke]
  rcases ht01 with rfl | rfl
  · obtain ⟨w, fs, g1⟩ := hkey.c0
    obtain ⟨c, e1, hc⟩ := kcmp0 hkey hkk
    rw [xsw_s g1, if_neg (by decide), if_neg (by decide), if_pos (by decide), e1, xcI_rI]
    exact step_put ht he hc h1 h2 h3 h4 h5
  · obtain ⟨w, fs, g1⟩ := hkey.c1
    obtain ⟨c, e1, hc⟩ := kcmp1 hkey hkk
    rw [xsw_s g1, if_neg (by decide), if_pos (by decide), e1, xcI_rI]
    exact step_put ht he hc h1 h2 h3 h4 h5
theorem stepF2 {qc : Nat} (hq : xco P qc = some 12) (ht : TZ P m (cm, q) root (z es.length) (fun a => a ∈ es) kk vv L R Pa C) (hkey : KR 2 P key x) (hk : ∀ e ∈ es, ∃ k, kk e = some k ∧ KR 2 P k (K e)) : StepF P m kk vv L R K es key x v (some qc) (f_J5_put_2_30F m) := by
  intro kf e Q he h1 h2 h3 h4 h5
  obtain ⟨k, hke, hkk⟩ := hk e he
  have e0 : ¬ ((1 : Int32) = 0) := by decide
  simp only [f_J5_put_2_30F, f_J5_put_2_95, f_J5_put_2_104, f_J5_put_2_201, f_J5_put_2_216, xnul_s, e0, ↓reduceIte]
  rw [ht.gkk he, hke]
  obtain ⟨c, e1, hc⟩ := kcmp2 hq hkey hkk
  have hsw : ∀ {α : Type} (K : Nat → Option α), xsw P qc K = K 12 := fun K => by unfold xsw; rw [hq]
  rw [hsw, if_neg (by decide), if_pos (by decide), e1, xcI_rI]
  exact step_put ht he hc h1 h2 h3 h4 h5
/-- a search and a put, from the root on -/
theorem put_loop {r : Option Nat} {F : (Option Nat × Option Nat × Int32 × Option Nat × Option Nat × PH → Option (xO × PH)) → Option Nat × Option Nat × Int32 × Option Nat × Option Nat × PH → Option (xO × PH)} (hF : StepF P m kk vv L R K es key x v r F) (ht : TT P m (cm, q) root (z es.length) (fun a => a ∈ es) K kk vv L R Pa C lo hi (-TB) TB) (hr : ∀ rt, root = some rt → C rt = z 1) (hI : Iv P) (hkey : KR t P key x) (hC : KC t P cm) (hk : ∀ e ∈ es, ∃ k, kk e = some k ∧ KR t P k (K e)) (hn : es.Nodup) (hl : es.length < 1000) {rt : Nat} (hrt : root = some rt) : OK (lp F FU (some key, v, 1, some rt, r, P)) (fun o P' => ∃ y, o = some (va_rf y) ∧ PutR t P m q es K kk vv key x v y P') := by
  have hb := hkey.bd
  have h0 := ht.2.rtS hrt
  refine ok_lpn (fun d p => ∃ e, p = (some key, v, 1, some e, r, P) ∧ d = icnt es K (lo e) (hi e) ∧ e ∈ es ∧ lo e < x ∧ x < hi e) ?_ FU _ _ ⟨rt, rfl, rfl, h0.1, by rw [h0.2.2.1]; unfold TB; omega, by rw [h0.2.2.2]; unfold TB; omega⟩ (by have := icnt_le es K (lo rt) (hi rt); simp only [FU]; omega)
  rintro kf d p ⟨e, rfl, rfl, he, h1, h2⟩ hk0
  have hke := ht.2.key he
  refine hF kf e _ he (fun c l hL => ?_) (fun c hL => ?_) (fun c l hL => ?_) (fun c hL => ?_) fun c => ?_
  · have hl := ht.2.lS he hL
    exact hk0 _ _ (icnt_lt he (by omega) (by omega) hke (by omega)) ⟨l, rfl, rfl, hl.1, by omega, by omega⟩
  · obtain ⟨P', e1, r1⟩ := addnew ht hr hI hkey hC hk hn hl (v := v) he 1 (Or.inl ⟨rfl, hL, h1, c⟩)
    rw [e1, xcV_rV]
    exact ok_rR.mpr ⟨none, rfl, r1⟩
  · have hl := ht.2.rS he hL
    exact hk0 _ _ (icnt_lt he (by omega) (by omega) hke (by omega)) ⟨l, rfl, rfl, hl.1, by omega, by omega⟩
  · obtain ⟨P', e1, r1⟩ := addnew ht hr hI hkey hC hk hn hl (v := v) he 0 (Or.inr ⟨rfl, hL, c, h2⟩)
    rw [e1, xcV_rV]
    exact ok_rR.mpr ⟨none, rfl, r1⟩
  · obtain ⟨P', e1, t1, s1⟩ := ht.1.wvv (n0 := P.2.1) hI he v
    rw [e1]
    refine ok_rR.mpr ⟨vv e, rfl, s1.1, Or.inl ⟨e, he, c, rfl, ⟨cm, root, L, R, Pa, C, lo, hi, ⟨t1, ht.2⟩, hr, ⟨hn, by omega⟩, ⟨hC.1, fun h2 => ?_, hC.2.2⟩, fun e' he' => ?_⟩, s1.2⟩⟩
    · rw [s1.1.con]
      exact hC.2.1 h2
    · obtain ⟨k, h3, h4⟩ := hk e' he'
      exact ⟨k, h3, h4.fr hI s1.1 ht.1.kfr⟩
theorem TZ.gcmp (ht : TZ P m (cm, q) root (z es.length) (fun a => a ∈ es) kk vv L R Pa C) : ∃ w fs, P.1 m = some (w, oB 15 fs) ∧ fs[2]? = some cm := by
  obtain ⟨⟨a0, a1, mc, a6, a8, h1⟩, h2⟩ := ht
  exact ⟨_, _, h1, rfl⟩
theorem compare_self (ht : TZ P m (cm, q) root (z es.length) (fun a => a ∈ es) kk vv L R Pa C) (hI : Iv P) (hkey : KR t P key x) (hC : KC t P cm) : ∃ c, f_J5_compare P m (some key) (some key) = rI c P := by
  obtain ⟨w, fs, h1, h2⟩ := ht.gcmp
  unfold f_J5_compare
  have ht3 : t = 0 ∨ t = 1 ∨ t = 2 := by have := hC.2.2; omega
  rcases ht3 with rfl | rfl | rfl
  · rw [hC.1 (by decide)] at h2
    obtain ⟨w', fs', g1⟩ := hkey.c0
    obtain ⟨c, e1, hc⟩ := kcmp0 hkey hkey
    rw [xcl1_s h1, xgR_n h1 h2, xnul_n, xcst_s g1 (by decide), xnul_s, xsw_s g1, if_neg (by decide), if_neg (by decide), if_pos (by decide), e1, xcI_rI]
    exact ⟨c, rfl⟩
  · rw [hC.1 (by decide)] at h2
    obtain ⟨w', fs', g1⟩ := hkey.c1
    obtain ⟨c, e1, hc⟩ := kcmp1 hkey hkey
    rw [xcl1_s h1, xgR_n h1 h2, xnul_n, xcst_s g1 (by decide), xnul_s, xsw_s g1, if_neg (by decide), if_pos (by decide), e1, xcI_rI]
    exact ⟨c, rfl⟩
  · obtain ⟨q, hq, rfl⟩ := hC.2.1 rfl
    have hq := hI.2.2.2.2.co hq
    obtain ⟨c, e1, hc⟩ := kcmp2 hq hkey hkey
    have hsw : ∀ {α : Type} (K : Nat → Option α), xsw P q K = K 12 := fun K => by unfold xsw; rw [hq]
    rw [xcl1_s h1, xgR_s h1 h2, xnul_s, xgR_s h1 h2, xnul_s, hsw, if_neg (by decide), if_pos (by decide), e1, xcI_rI]
    exact ⟨c, rfl⟩
theorem TZ.sub {S S' : Nat → Prop} {sz : Int32} (ht : TZ P m (cm, q) root sz S kk vv L R Pa C) (h : ∀ e, S' e → S e) : TZ P m (cm, q) root sz S' kk vv L R Pa C := ⟨ht.1, fun e he => ht.2 e (h e he)⟩
theorem put_first (ht : TT P m (cm, q) none (z 0) (fun a => a ∈ ([] : List Nat)) K kk vv L R Pa C lo hi (-TB) TB) (hI : Iv P) (hkey : KR t P key x) (hC : KC t P cm) : ∃ P', f_J5_addEntryToEmptyMap P m (some key) v = rV P' ∧ PutR t P m q [] K kk vv key x v none P' := by
  have hx := hkey.bd
  have h1 : TZ P m (cm, q) none (z 0) (fun a => a ∈ ([] : List Nat)) kk vv L R Pa C := ht.1
  obtain ⟨c, e1⟩ := compare_self (es := []) h1 hI hkey hC
  have tp := ht.1.push hI (k := some key) (v := v) (pa := none)
  have fp : Fr P.2.1 (TWl m []) P (xpush P (oB 19 [va_rf (some key), va_rf v, .null, .null, va_rf none, .int (z 1)]) 6) := Fr.push hI rfl
  obtain ⟨P2, e2, t2, s2⟩ := tp.wT (n0 := (xpush P (oB 19 [va_rf (some key), va_rf v, .null, .null, va_rf none, .int (z 1)]) 6).2.1) fp.iv (some P.2.1)
  obtain ⟨P3, e3, t3, s3⟩ := t2.wsz (n0 := (xpush P (oB 19 [va_rf (some key), va_rf v, .null, .null, va_rf none, .int (z 1)]) 6).2.1) s2.1.iv 1
  obtain ⟨P4, e4, t4, s4⟩ := t3.mcnt (n0 := (xpush P (oB 19 [va_rf (some key), va_rf v, .null, .null, va_rf none, .int (z 1)]) 6).2.1) s3.1.iv
  have s5 := s2.trans (s3.trans s4)
  have hf : Fr P.2.1 (TWl m []) P P4 := Fr.call hI fp s5.1 fun a ha => ha.elim (fun h => Or.inl (Or.inl h)) fun h => h.elim (fun h => Or.inl (Or.inr h)) fun h => Or.inr (by omega)
  have hfun : (fun a => a ∈ ([] : List Nat) ∨ a = P.2.1) = (fun a => a ∈ [P.2.1]) := mem_cons_fun
  rw [hfun] at t4
  refine ⟨P4, ?_, hf, Or.inr ⟨fun e he => (by cases he), rfl, ⟨cm, some P.2.1, _, _, _, _, fun _ => -TB, fun _ => TB, ⟨t4, ?_⟩, fun rt hrt => ?_, ⟨by simp, by simp⟩, ⟨hC.1, fun h2 => ?_, hC.2.2⟩, fun e he => ?_⟩, s5.2.1.trans wt_push, hf.next⟩⟩
  · unfold f_J5_addEntryToEmptyMap
    rw [ht.1.cl, e1, xcI_rI, xnew_s, show [Value.null, Value.null, Value.null, Value.null, Value.null, Value.int 0].length = 6 from rfl, ent_init, xcV_rV]
    exact (e2 _).trans ((e3 _).trans (e4 _))
  · have hT : TB = 1000000000000 := rfl
    simp only [TI, updO, updZ]
    refine ⟨?_, ?_, ?_, ?_, ?_, ?_, ?_, ?_, ?_, ?_, ?_⟩ <;> grind
  · cases hrt
    exact updI_s
  · rw [hf.con]
    exact hC.2.1 h2
  · have e1 : e = P.2.1 := by simpa using he
    subst e1
    exact ⟨key, by simp only [updO, ↓reduceIte], by simpa only [updZ, ↓reduceIte] using hkey.fr hI hf ht.1.kfr⟩
/-- TreeMap.put -/
theorem MP.put (h : MP t P m q es K kk vv) (hI : Iv P) (hl : es.length < 1000) (hkey : KR t P key x) : ∃ y P', f_J5_put P m (some key) v = rR y P' ∧ PutR t P m q es K kk vv key x v y P' := by
  obtain ⟨cm, root, L, R, Pa, C, lo, hi, ht, hr, ⟨hn, -⟩, hC, hk⟩ := h
  suffices hS : OK (f_J5_put P m (some key) v) (fun o P' => ∃ y, o = some (va_rf y) ∧ PutR t P m q es K kk vv key x v y P') by
    obtain ⟨o, P', e, y, rfl, r⟩ := hS
    exact ⟨y, P', e, r⟩
  unfold f_J5_put
  rw [ht.1.cl]
  refine ok_cR (OK.mono (Q := fun o P' => ∃ y, o = some (va_rf y) ∧ PutR t P m q es K kk vv key x v y P') ?_ fun o P' ⟨y, e, r⟩ => ⟨y, e, ok_rR.mpr ⟨y, rfl, r⟩⟩)
  unfold f_J5_put_2
  rw [ht.1.cl, ht.1.gT]
  cases hroot : root with
  | none =>
    have he : es = [] := by
      cases es with
      | nil => rfl
      | cons e es => exact absurd (List.mem_cons_self ..) (ht.2.2.1 hroot e)
    subst he
    subst hroot
    obtain ⟨P', e1, r1⟩ := put_first (v := v) ht hI hkey hC
    rw [xnul_n, e1, xcV_rV]
    exact ok_rR.mpr ⟨none, rfl, r1⟩
  | some rt =>
    rw [xnul_s]
    obtain ⟨w, fs, h1, h2⟩ := ht.1.gcmp
    have ht3 : (t = 0 ∨ t = 1) ∨ t = 2 := by have := hC.2.2; omega
    rcases ht3 with h3 | rfl
    · rw [hC.1 (by omega)] at h2
      rw [xgR_n h1 h2, xnul_n]
      unfold f_J20_requireNonNull
      rw [xnul_s, xcR_rR]
      have hcst : ∀ (K : Option (xO × PH)), xcst P (some key) [16, 18, 10] K = K := fun K => by
        rcases h3 with rfl | rfl
        · obtain ⟨w, fs, g1⟩ := hkey.c0
          exact xcst_s g1 (by decide)
        · obtain ⟨w, fs, g1⟩ := hkey.c1
          exact xcst_s g1 (by decide)
      rw [hcst]
      exact put_loop (stepF01 h3 ht.1 hkey hk) ht hr hI hkey hC hk hn hl hroot
    · obtain ⟨q, hq, rfl⟩ := hC.2.1 rfl
      rw [xgR_s h1 h2, xnul_s]
      exact put_loop (stepF2 (hI.2.2.2.2.co hq) ht.1 hkey hk) ht hr hI hkey hC hk hn hl hroot
end
