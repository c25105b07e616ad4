/-! TREES: SEARCH, ORDER -/
set_option maxRecDepth 100000
section
variable {t : Nat} {P : PH} {m : Nat} {es : List Nat} {K : Nat → Int} {kk vv : Nat → Option Nat} {key : Nat} {x : Int} {v : Option Nat} {cm q : Value} {root : Option Nat} {L R Pa : Nat → Option Nat} {C : Nat → Int32} {lo hi : Nat → Int}
theorem step_get {kf : Option Nat × Option Nat × PH → Option (xO × PH)} {Q : Option Value → PH → Prop} {e : Nat} {c : Int32} (ht : TZ P m (cm, q) root (z es.length) (fun a => a ∈ es) kk vv L R Pa C) (he : e ∈ es) (hc : sgq c x (K e)) (h1 : x < K e → OK (kf (some key, L e, P)) Q) (h3 : K e < x → OK (kf (some key, R e, P)) Q) (h5 : K e = x → OK (rR (some e) P) Q) : OK (if 0 ≤ c then (if c ≤ 0 then rR (some e) P else (xgR P e 19 3 fun x20 => kf (some key, x20, P))) else (xgR P e 19 2 fun x20 => kf (some key, x20, P))) Q := by
  obtain ⟨i, rfl, ⟨i1, i2⟩, i3, i4⟩ := hc
  simp (disch := omega) only [show (0 : Int32) = z 0 from rfl, zle]
  rw [ht.gL he, ht.gR he]
  exact ok_ite (fun c1 => ok_ite (fun c2 => h5 (by omega)) fun c2 => h3 (by omega)) fun c1 => h1 (by omega)
/-- whether a key is there -/
def GetR (es : List Nat) (K : Nat → Int) (x : Int) (o : Option Nat) : Prop := (∃ e, e ∈ es ∧ K e = x ∧ o = some e) ∨ ((∀ e ∈ es, K e ≠ x) ∧ o = none)
theorem MP.getEntry (h : MP t P m q es K kk vv) (hI : Iv P) (ht2 : t = 0 ∨ t = 1) (hkey : KR t P key x) : ∃ o, f_J5_getEntry P m (some key) = rR o P ∧ GetR es K x o := by
  obtain ⟨cm, root, L, R, Pa, C, lo, hi, ht, hr, ⟨hn, hl⟩, hC, hk⟩ := h
  suffices hS : OK (f_J5_getEntry P m (some key)) (fun v P' => P' = P ∧ ∃ o, v = some (va_rf o) ∧ GetR es K x o) by
    obtain ⟨v, P', e, rfl, o, rfl, r⟩ := hS
    exact ⟨o, e, r⟩
  have hb := hkey.bd
  obtain ⟨w, fs, h1, h2⟩ := ht.1.gcmp
  rw [hC.1 (by omega)] at h2
  unfold f_J5_getEntry f_J20_requireNonNull
  have hcst : ∀ (K : Option (xO × PH)), xcst P (some key) [16, 18, 10] K = K := fun K => by
    rcases ht2 with rfl | rfl
    · obtain ⟨w, fs, g1⟩ := hkey.c0
      exact xcst_s g1 (by decide)
    · obtain ⟨w, fs, g1⟩ := hkey.c1
      exact xcst_s g1 (by decide)
  rw [xcl1_s h1, xgR_n h1 h2, xnul_n, xnul_s, xcR_rR, hcst, ht.1.gT]
  refine ok_lpn (fun d p => ∃ o, p = (some key, o, P) ∧ ((o = none ∧ ∀ e ∈ es, K e ≠ x) ∨ ∃ e, o = some e ∧ d = 1 + icnt es K (lo e) (hi e) ∧ e ∈ es ∧ lo e < x ∧ x < hi e)) ?_ FU (es.length + 1) _ ?_ (by simp only [FU]; omega)
  · rintro kf d p ⟨o, rfl, ⟨rfl, h0⟩ | ⟨e, rfl, hd, he, h3, h4⟩⟩ hk0
    · exact ok_rR.mpr ⟨rfl, none, rfl, Or.inr ⟨h0, rfl⟩⟩
    · obtain ⟨k, hke, hkk⟩ := hk e he
      have hke' := ht.2.key he
      simp only [f_J5_getEntry_28F, f_J5_getEntry_72, xnul_s]
      rw [ht.1.gkk he, hke]
      have fin : ∀ c, sgq c x (K e) → OK (if 0 ≤ c then (if c ≤ 0 then rR (some e) P else (xgR P e 19 3 fun x20 => kf (some key, x20, P))) else (xgR P e 19 2 fun x20 => kf (some key, x20, P))) (fun v P' => P' = P ∧ ∃ o, v = some (va_rf o) ∧ GetR es K x o) := by
        intro c hc
        refine step_get ht.1 he hc (fun c => ?_) (fun c => ?_) fun c => ok_rR.mpr ⟨rfl, some e, rfl, Or.inl ⟨e, he, c, rfl⟩⟩
        · cases hL : L e with
          | none =>
            refine hk0 0 _ (by omega) ⟨none, rfl, Or.inl ⟨rfl, fun s hs h5 => ?_⟩⟩
            exact ht.2.2.2.2.2.2.1 e s he hL hs ⟨by omega, by omega⟩
          | some l =>
            have hl := ht.2.lS he hL
            have : icnt es K (lo l) (hi l) < icnt es K (lo e) (hi e) := icnt_lt he (by omega) (by omega) hke' (by omega)
            exact hk0 (1 + icnt es K (lo l) (hi l)) _ (by omega) ⟨some l, rfl, Or.inr ⟨l, rfl, rfl, hl.1, by omega, by omega⟩⟩
        · cases hL : R e with
          | none =>
            refine hk0 0 _ (by omega) ⟨none, rfl, Or.inl ⟨rfl, fun s hs h5 => ?_⟩⟩
            exact ht.2.2.2.2.2.2.2.1 e s he hL hs ⟨by omega, by omega⟩
          | some l =>
            have hl := ht.2.rS he hL
            have : icnt es K (lo l) (hi l) < icnt es K (lo e) (hi e) := icnt_lt he (by omega) (by omega) hke' (by omega)
            exact hk0 (1 + icnt es K (lo l) (hi l)) _ (by omega) ⟨some l, rfl, Or.inr ⟨l, rfl, rfl, hl.1, by omega, by omega⟩⟩
      rcases ht2 with rfl | rfl
      · obtain ⟨w, fs, g1⟩ := hkey.c0
        obtain ⟨c, e1, hc⟩ := kcmp0 hkey hkk
        rw [xsw_s g1, if_neg (by decide), if_neg (by decide), if_pos (by decide), e1, xcI_rI]
        exact fin c hc
      · obtain ⟨w, fs, g1⟩ := hkey.c1
        obtain ⟨c, e1, hc⟩ := kcmp1 hkey hkk
        rw [xsw_s g1, if_neg (by decide), if_pos (by decide), e1, xcI_rI]
        exact fin c hc
  · refine ⟨root, rfl, ?_⟩
    cases hroot : root with
    | none => exact Or.inl ⟨rfl, fun e he => absurd he (ht.2.2.1 hroot e)⟩
    | some rt =>
      have h0 := ht.2.rtS hroot
      have hT : TB = 1000000000000 := rfl
      refine Or.inr ⟨rt, rfl, ?_, h0.1, by rw [h0.2.2.1]; omega, by rw [h0.2.2.2]; omega⟩
      have : icnt es K (lo rt) (hi rt) = es.length := by
        unfold icnt
        rw [List.filter_eq_self.mpr]
        intro e he
        obtain ⟨k, h3, h4⟩ := hk e he
        have := h4.bd
        rw [h0.2.2.1, h0.2.2.2]
        simp only [decide_eq_true_eq]
        omega
      omega
theorem MP.cl (h : MP t P m q es K kk vv) {α : Type} {K : Option α} : xcl1 P m 15 K = K := by
  obtain ⟨cm, root, L, R, Pa, C, lo, hi, ht, h2⟩ := h
  exact ht.1.cl
theorem MP.gvv (h : MP t P m q es K kk vv) {e : Nat} (he : e ∈ es) {α : Type} {K : Option Nat → Option α} : xgR P e 19 1 K = K (vv e) := by
  obtain ⟨cm, root, L, R, Pa, C, lo, hi, ht, h2⟩ := h
  exact ht.1.gvv he
theorem MP.gkk (h : MP t P m q es K kk vv) {e : Nat} (he : e ∈ es) {α : Type} {K : Option Nat → Option α} : xgR P e 19 0 K = K (kk e) := by
  obtain ⟨cm, root, L, R, Pa, C, lo, hi, ht, h2⟩ := h
  exact ht.1.gkk he
theorem MP.get (h : MP t P m q es K kk vv) (hI : Iv P) (ht2 : t = 0 ∨ t = 1) (hkey : KR t P key x) : ∃ o, GetR es K x o ∧ f_J5_get P m (some key) = rR (o.bind vv) P := by
  obtain ⟨o, e1, r⟩ := h.getEntry hI ht2 hkey
  refine ⟨o, r, ?_⟩
  unfold f_J5_get
  rw [h.cl, e1, xcR_rR]
  rcases r with ⟨e, he, -, rfl⟩ | ⟨-, rfl⟩
  · rw [xnul_s, h.gvv he]
    rfl
  · rfl
theorem MP.has (h : MP t P m q es K kk vv) (hI : Iv P) (ht2 : t = 0 ∨ t = 1) (hkey : KR t P key x) : f_J5_containsKey P m (some key) = rI (z (b2 (∃ e ∈ es, K e = x))) P := by
  obtain ⟨o, e1, r⟩ := h.getEntry hI ht2 hkey
  unfold f_J5_containsKey
  rw [h.cl, e1, xcR_rR]
  rcases r with ⟨e, he, h1, rfl⟩ | ⟨h1, rfl⟩
  · rw [xnul_s, if_pos nar_z1, b2, if_pos ⟨e, he, h1⟩]
    rfl
  · rw [xnul_n, if_pos nar_z0, b2, if_neg fun ⟨e, he, h2⟩ => h1 e he h2]
    rfl
theorem MP.size (h : MP t P m q es K kk vv) : f_J5_size P m = rI (z es.length) P := by
  obtain ⟨cm, root, L, R, Pa, C, lo, hi, ht, h2⟩ := h
  unfold f_J5_size
  rw [ht.1.cl, ht.1.gsz]
/-- the next in order -/
def NextR (es : List Nat) (K : Nat → Int) (x : Int) (o : Option Nat) : Prop := (∃ s, o = some s ∧ s ∈ es ∧ x < K s ∧ ∀ q ∈ es, ¬ (x < K q ∧ K q < K s)) ∨ (o = none ∧ ∀ q ∈ es, K q ≤ x)
/-- down to the left -/
theorem TT.left {sz : Int32} (ht : TT P m (cm, q) root sz (fun a => a ∈ es) K kk vv L R Pa C lo hi (-TB) TB) (hl : es.length ≤ 1000) {F : (Option Nat × PH → Option (xO × PH)) → Option Nat × PH → Option (xO × PH)} (hF : ∀ kf e, e ∈ es → F kf (some e, P) = xnul (L e) (rR (some e) P) fun l => kf (some l, P)) {e : Nat} (he : e ∈ es) (Q : Option Value → PH → Prop) (hQ : ∀ s, s ∈ es → L s = none → lo s = lo e → Q (some (va_rf (some s))) P) : OK (lp F FU (some e, P)) Q := by
  refine ok_lpn (fun d p => ∃ e', p = (some e', P) ∧ d = icnt es K (lo e') (hi e') ∧ e' ∈ es ∧ lo e' = lo e) ?_ FU _ _ ⟨e, rfl, rfl, he, rfl⟩ (by have := icnt_le es K (lo e) (hi e); simp only [FU]; omega)
  rintro kf d p ⟨e', rfl, rfl, he', h1⟩ hk0
  rw [hF kf e' he']
  have hke' := ht.2.key he'
  cases hL : L e' with
  | none => exact ok_rR.mpr (hQ e' he' hL h1)
  | some l =>
    have hl := ht.2.lS he' hL
    exact hk0 _ _ (icnt_lt he' (by omega) (by omega) hke' (by omega)) ⟨l, rfl, rfl, hl.1, by omega⟩
theorem MP.first (h : MP t P m q es K kk vv) : ∃ o, f_J5_getFirstEntry P m = rR o P ∧ NextR es K (-TB) o := by
  obtain ⟨cm, root, L, R, Pa, C, lo, hi, ht, hr, ⟨hn, hl⟩, hC, hk⟩ := h
  suffices hS : OK (f_J5_getFirstEntry P m) (fun v P' => P' = P ∧ ∃ o, v = some (va_rf o) ∧ NextR es K (-TB) o) by
    obtain ⟨v, P', e, rfl, o, rfl, r⟩ := hS
    exact ⟨o, e, r⟩
  unfold f_J5_getFirstEntry
  rw [ht.1.cl, ht.1.gT]
  cases hroot : root with
  | none => exact ok_rR.mpr ⟨rfl, none, rfl, Or.inr ⟨rfl, fun e he => absurd he (ht.2.2.1 hroot e)⟩⟩
  | some rt =>
    have h0 := ht.2.rtS hroot
    rw [xnul_s]
    refine ht.left hl (F := f_J5_getFirstEntry_9F m) (fun kf e he => ?_) h0.1 _ fun s hs h1 h2 => ?_
    · simp only [f_J5_getFirstEntry_9F, xnul_s]
      rw [ht.1.gL he]
      cases hL : L e with
      | none => rfl
      | some l => rw [xnul_s, ht.1.gL he, hL]; rfl
    · refine ⟨rfl, some s, rfl, Or.inl ⟨s, rfl, hs, ?_, fun q hq => ?_⟩⟩
      · have := ht.2.key hs
        omega
      · have := ht.2.2.2.2.2.2.1 s q hs h1 hq
        omega
theorem MP.succ (h : MP t P m q es K kk vv) {e : Nat} (he : e ∈ es) : ∃ o, f_J5_successor P (some e) = rR o P ∧ NextR es K (K e) o := by
  obtain ⟨cm, root, L, R, Pa, C, lo, hi, ht, hr, ⟨hn, hl⟩, hC, hk⟩ := h
  suffices hS : OK (f_J5_successor P (some e)) (fun v P' => P' = P ∧ ∃ o, v = some (va_rf o) ∧ NextR es K (K e) o) by
    obtain ⟨v, P', e, rfl, o, rfl, r⟩ := hS
    exact ⟨o, e, r⟩
  have hke := ht.2.key he
  unfold f_J5_successor
  rw [xnul_s, ht.1.gR he]
  cases hR : R e with
  | some r =>
    have hr := ht.2.rS he hR
    rw [xnul_s, ht.1.gR he, hR]
    refine ht.left hl (F := f_J5_successor_18F) (fun kf e he => ?_) hr.1 _ fun s hs h1 h2 => ?_
    · simp only [f_J5_successor_18F, xnul_s]
      rw [ht.1.gL he]
      cases hL : L e with
      | none => rfl
      | some l => rw [xnul_s, ht.1.gL he, hL]; rfl
    · refine ⟨rfl, some s, rfl, Or.inl ⟨s, rfl, hs, ?_, fun q hq => ?_⟩⟩
      · have := ht.2.key hs
        omega
      · have := ht.2.2.2.2.2.2.1 s q hs h1 hq
        omega
  | none =>
    rw [xnul_n, ht.1.gPa he]
    refine ok_lpn (fun d p => ∃ c, p = (Pa c, some c, P) ∧ d = es.length - icnt es K (lo c) (hi c) ∧ c ∈ es ∧ hi c = hi e) ?_ FU _ _ ⟨e, rfl, rfl, he, rfl⟩ (by simp only [FU]; omega)
    rintro kf d p ⟨c, rfl, rfl, hc, h1⟩ hk0
    have hkc := ht.2.key hc
    have h6 : ∀ q ∈ es, ¬ (K e < K q ∧ K q < hi e) := fun q hq => ht.2.2.2.2.2.2.2.1 e q he hR hq
    cases hP : Pa c with
    | none =>
      have h2 := ht.2.rtS (ht.2.rt hc hP)
      refine ok_rR.mpr ⟨rfl, none, rfl, Or.inr ⟨rfl, fun q hq => ?_⟩⟩
      obtain ⟨k, h3, h4⟩ := hk q hq
      have := h4.bd
      have := h6 q hq
      have hT : TB = 1000000000000 := rfl
      omega
    | some p =>
      have h2 := ht.2.pS hc hP
      have hkp := ht.2.key h2.1
      simp only [f_J5_successor_42F, xnul_s]
      rw [ht.1.gR h2.1]
      by_cases c1 : some c = R p
      · rw [if_pos c1, ht.1.gPa h2.1]
        have h3 := ht.2.rS h2.1 c1.symm
        have h4 : icnt es K (lo c) (hi c) < icnt es K (lo p) (hi p) := icnt_lt h2.1 (by omega) (by omega) hkp (by omega)
        have h5 := icnt_le es K (lo p) (hi p)
        exact hk0 _ _ (by omega) ⟨p, rfl, rfl, h2.1, by omega⟩
      · rw [if_neg c1]
        have h3 := ht.2.lS h2.1 (h2.2.resolve_right fun e => c1 e.symm)
        refine ok_rR.mpr ⟨rfl, some p, rfl, Or.inl ⟨p, rfl, h2.1, by omega, fun q hq => ?_⟩⟩
        have := h6 q hq
        omega
end
