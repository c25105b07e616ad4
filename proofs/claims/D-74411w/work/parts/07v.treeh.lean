/-! TREES IN THE HEAP -/
set_option maxRecDepth 100000
def updI (f : Nat → Int32) (a : Nat) (x : Int32) : Nat → Int32 := fun q => if q = a then x else f q
/-- a tree's cells -/
def TZ (P : PH) (m : Nat) (cmp : Value × Value) (root : Option Nat) (sz : Int32) (S : Nat → Prop) (kk vv L R Pa : Nat → Option Nat) (C : Nat → Int32) : Prop := (∃ a0 a1 mc a6 a8, P.1 m = some (true, oB 15 [a0, a1, cmp.1, va_rf root, .int sz, .int mc, a6, cmp.2, a8])) ∧ ∀ e, S e → (C e = z 0 ∨ C e = z 1) ∧ P.1 e = some (true, oB 19 [va_rf (kk e), va_rf (vv e), va_rf (L e), va_rf (R e), va_rf (Pa e), .int (C e)])
def TW (m : Nat) (S : Nat → Prop) : Nat → Prop := fun a => a = m ∨ S a
/-- one step that keeps the frame -/
def TStep (n0 m : Nat) (S : Nat → Prop) (P P' : PH) : Prop := Fr n0 (TW m S) P P' ∧ wt P' = wt P ∧ P'.2.1 = P.2.1
theorem TStep.trans {n0 m : Nat} {S : Nat → Prop} {P P1 P2 : PH} (h : TStep n0 m S P P1) (h' : TStep n0 m S P1 P2) : TStep n0 m S P P2 := ⟨h.1.trans h'.1, h'.2.1.trans h.2.1, h'.2.2.trans h.2.2⟩
theorem TStep.rf {n0 m : Nat} {S : Nat → Prop} {P : PH} (hI : Iv P) : TStep n0 m S P P := ⟨Fr.rf hI, rfl, rfl⟩
section
variable {n0 m : Nat} {P : PH} {cmp : Value × Value} {root : Option Nat} {sz : Int32} {S : Nat → Prop} {kk vv L R Pa : Nat → Option Nat} {C : Nat → Int32}
theorem TZ.ne (h : TZ P m cmp root sz S kk vv L R Pa C) {e : Nat} (he : S e) : e ≠ m := fun e1 => by
  obtain ⟨⟨a0, a1, mc, a6, a8, h1⟩, h2⟩ := h
  obtain ⟨-, h3⟩ := h2 e he
  rw [e1, h1] at h3
  cases h3

theorem TZ.gkk (h : TZ P m cmp root sz S kk vv L R Pa C) {e : Nat} (he : S e) {α : Type} {K : Option Nat → Option α} : xgR P e 19 0 K = K (kk e) := by
  obtain ⟨-, h2⟩ := h
  obtain ⟨-, h3⟩ := h2 e he
  exact xgR_v (k := 0) h3 rfl

theorem TZ.gvv (h : TZ P m cmp root sz S kk vv L R Pa C) {e : Nat} (he : S e) {α : Type} {K : Option Nat → Option α} : xgR P e 19 1 K = K (vv e) := by
  obtain ⟨-, h2⟩ := h
  obtain ⟨-, h3⟩ := h2 e he
  exact xgR_v (k := 1) h3 rfl

theorem TZ.gL (h : TZ P m cmp root sz S kk vv L R Pa C) {e : Nat} (he : S e) {α : Type} {K : Option Nat → Option α} : xgR P e 19 2 K = K (L e) := by
  obtain ⟨-, h2⟩ := h
  obtain ⟨-, h3⟩ := h2 e he
  exact xgR_v (k := 2) h3 rfl

theorem TZ.gR (h : TZ P m cmp root sz S kk vv L R Pa C) {e : Nat} (he : S e) {α : Type} {K : Option Nat → Option α} : xgR P e 19 3 K = K (R e) := by
  obtain ⟨-, h2⟩ := h
  obtain ⟨-, h3⟩ := h2 e he
  exact xgR_v (k := 3) h3 rfl

theorem TZ.gPa (h : TZ P m cmp root sz S kk vv L R Pa C) {e : Nat} (he : S e) {α : Type} {K : Option Nat → Option α} : xgR P e 19 4 K = K (Pa e) := by
  obtain ⟨-, h2⟩ := h
  obtain ⟨-, h3⟩ := h2 e he
  exact xgR_v (k := 4) h3 rfl

theorem TZ.gC (h : TZ P m cmp root sz S kk vv L R Pa C) {e : Nat} (he : S e) {α : Type} {K : Int32 → Option α} : xgI P e 19 5 K = K (C e) := by
  obtain ⟨-, h2⟩ := h
  exact xgI_s (k := 5) (h2 e he).2 rfl
theorem TZ.col (h : TZ P m cmp root sz S kk vv L R Pa C) {e : Nat} (he : S e) : C e = z 0 ∨ C e = z 1 := (h.2 e he).1
theorem TZ.gT (h : TZ P m cmp root sz S kk vv L R Pa C) {α : Type} {K : Option Nat → Option α} : xgR P m 15 3 K = K root := by
  obtain ⟨⟨a0, a1, mc, a6, a8, h1⟩, h2⟩ := h
  exact xgR_v (k := 3) h1 rfl
theorem TZ.cl (h : TZ P m cmp root sz S kk vv L R Pa C) {α : Type} {K : Option α} : xcl1 P m 15 K = K := by
  obtain ⟨⟨a0, a1, mc, a6, a8, h1⟩, h2⟩ := h
  exact xcl1_s h1
theorem TZ.wT (h : TZ P m cmp root sz S kk vv L R Pa C) (hI : Iv P) (x : Option Nat) : ∃ P', (∀ {α : Type} (K : PH → Option α), xpF P m 15 3 (va_rf x) K = K P') ∧ TZ P' m cmp x sz S kk vv L R Pa C ∧ TStep n0 m S P P' := by
  have hne := fun e (he : S e) => h.ne he
  obtain ⟨⟨a0, a1, mc, a6, a8, h1⟩, h2⟩ := h
  refine ⟨_, fun K => xpF_z h1 (by simp), ⟨⟨a0, a1, mc, a6, a8, up_at⟩, fun e he => ?_⟩, Fr.upo hI h1 rfl (fun b hb => by cases hb) fun _ => Or.inl rfl, rfl, rfl⟩
  exact ⟨(h2 e he).1, (up_ne (hne e he)).trans (h2 e he).2⟩

theorem TZ.wkk (h : TZ P m cmp root sz S kk vv L R Pa C) (hI : Iv P) {e : Nat} (he : S e) (x : Option Nat) : ∃ P', (∀ {α : Type} (K : PH → Option α), xpF P e 19 0 (va_rf x) K = K P') ∧ TZ P' m cmp root sz S (updO kk e x) vv L R Pa C ∧ TStep n0 m S P P' := by
  have hne := fun e (he : S e) => h.ne he
  obtain ⟨⟨a0, a1, mc, a6, a8, h1⟩, h2⟩ := h
  obtain ⟨hc, h3⟩ := h2 e he
  refine ⟨_, fun K => xpF_z h3 (by simp), ⟨⟨a0, a1, mc, a6, a8, (up_ne (hne e he).symm).trans h1⟩, fun e' he' => ?_⟩, Fr.upo hI h3 rfl (fun b hb => by cases hb) fun _ => Or.inr he, rfl, rfl⟩
  by_cases ee : e' = e
  · subst ee
    refine ⟨hc, up_at.trans ?_⟩
    simp [updO, updI]
  · obtain ⟨hc', h3'⟩ := h2 e' he'
    refine ⟨hc', (up_ne ee).trans (h3'.trans ?_)⟩
    simp [updO, updI, ee]

theorem TZ.wvv (h : TZ P m cmp root sz S kk vv L R Pa C) (hI : Iv P) {e : Nat} (he : S e) (x : Option Nat) : ∃ P', (∀ {α : Type} (K : PH → Option α), xpF P e 19 1 (va_rf x) K = K P') ∧ TZ P' m cmp root sz S kk (updO vv e x) L R Pa C ∧ TStep n0 m S P P' := by
  have hne := fun e (he : S e) => h.ne he
  obtain ⟨⟨a0, a1, mc, a6, a8, h1⟩, h2⟩ := h
  obtain ⟨hc, h3⟩ := h2 e he
  refine ⟨_, fun K => xpF_z h3 (by simp), ⟨⟨a0, a1, mc, a6, a8, (up_ne (hne e he).symm).trans h1⟩, fun e' he' => ?_⟩, Fr.upo hI h3 rfl (fun b hb => by cases hb) fun _ => Or.inr he, rfl, rfl⟩
  by_cases ee : e' = e
  · subst ee
    refine ⟨hc, up_at.trans ?_⟩
    simp [updO, updI]
  · obtain ⟨hc', h3'⟩ := h2 e' he'
    refine ⟨hc', (up_ne ee).trans (h3'.trans ?_)⟩
    simp [updO, updI, ee]

theorem TZ.wL (h : TZ P m cmp root sz S kk vv L R Pa C) (hI : Iv P) {e : Nat} (he : S e) (x : Option Nat) : ∃ P', (∀ {α : Type} (K : PH → Option α), xpF P e 19 2 (va_rf x) K = K P') ∧ TZ P' m cmp root sz S kk vv (updO L e x) R Pa C ∧ TStep n0 m S P P' := by
  have hne := fun e (he : S e) => h.ne he
  obtain ⟨⟨a0, a1, mc, a6, a8, h1⟩, h2⟩ := h
  obtain ⟨hc, h3⟩ := h2 e he
  refine ⟨_, fun K => xpF_z h3 (by simp), ⟨⟨a0, a1, mc, a6, a8, (up_ne (hne e he).symm).trans h1⟩, fun e' he' => ?_⟩, Fr.upo hI h3 rfl (fun b hb => by cases hb) fun _ => Or.inr he, rfl, rfl⟩
  by_cases ee : e' = e
  · subst ee
    refine ⟨hc, up_at.trans ?_⟩
    simp [updO, updI]
  · obtain ⟨hc', h3'⟩ := h2 e' he'
    refine ⟨hc', (up_ne ee).trans (h3'.trans ?_)⟩
    simp [updO, updI, ee]

theorem TZ.wR (h : TZ P m cmp root sz S kk vv L R Pa C) (hI : Iv P) {e : Nat} (he : S e) (x : Option Nat) : ∃ P', (∀ {α : Type} (K : PH → Option α), xpF P e 19 3 (va_rf x) K = K P') ∧ TZ P' m cmp root sz S kk vv L (updO R e x) Pa C ∧ TStep n0 m S P P' := by
  have hne := fun e (he : S e) => h.ne he
  obtain ⟨⟨a0, a1, mc, a6, a8, h1⟩, h2⟩ := h
  obtain ⟨hc, h3⟩ := h2 e he
  refine ⟨_, fun K => xpF_z h3 (by simp), ⟨⟨a0, a1, mc, a6, a8, (up_ne (hne e he).symm).trans h1⟩, fun e' he' => ?_⟩, Fr.upo hI h3 rfl (fun b hb => by cases hb) fun _ => Or.inr he, rfl, rfl⟩
  by_cases ee : e' = e
  · subst ee
    refine ⟨hc, up_at.trans ?_⟩
    simp [updO, updI]
  · obtain ⟨hc', h3'⟩ := h2 e' he'
    refine ⟨hc', (up_ne ee).trans (h3'.trans ?_)⟩
    simp [updO, updI, ee]

theorem TZ.wPa (h : TZ P m cmp root sz S kk vv L R Pa C) (hI : Iv P) {e : Nat} (he : S e) (x : Option Nat) : ∃ P', (∀ {α : Type} (K : PH → Option α), xpF P e 19 4 (va_rf x) K = K P') ∧ TZ P' m cmp root sz S kk vv L R (updO Pa e x) C ∧ TStep n0 m S P P' := by
  have hne := fun e (he : S e) => h.ne he
  obtain ⟨⟨a0, a1, mc, a6, a8, h1⟩, h2⟩ := h
  obtain ⟨hc, h3⟩ := h2 e he
  refine ⟨_, fun K => xpF_z h3 (by simp), ⟨⟨a0, a1, mc, a6, a8, (up_ne (hne e he).symm).trans h1⟩, fun e' he' => ?_⟩, Fr.upo hI h3 rfl (fun b hb => by cases hb) fun _ => Or.inr he, rfl, rfl⟩
  by_cases ee : e' = e
  · subst ee
    refine ⟨hc, up_at.trans ?_⟩
    simp [updO, updI]
  · obtain ⟨hc', h3'⟩ := h2 e' he'
    refine ⟨hc', (up_ne ee).trans (h3'.trans ?_)⟩
    simp [updO, updI, ee]

theorem TZ.wC (h : TZ P m cmp root sz S kk vv L R Pa C) (hI : Iv P) {e : Nat} (he : S e) (x : Int32) (hx : x = z 0 ∨ x = z 1) : ∃ P', (∀ {α : Type} (K : PH → Option α), xpF P e 19 5 (.int x) K = K P') ∧ TZ P' m cmp root sz S kk vv L R Pa (updI C e x) ∧ TStep n0 m S P P' := by
  have hne := fun e (he : S e) => h.ne he
  obtain ⟨⟨a0, a1, mc, a6, a8, h1⟩, h2⟩ := h
  obtain ⟨hc, h3⟩ := h2 e he
  refine ⟨_, fun K => xpF_z h3 (by simp), ⟨⟨a0, a1, mc, a6, a8, (up_ne (hne e he).symm).trans h1⟩, fun e' he' => ?_⟩, Fr.upo hI h3 rfl (fun b hb => by cases hb) fun _ => Or.inr he, rfl, rfl⟩
  by_cases ee : e' = e
  · subst ee
    refine ⟨(by simpa [updI] using hx), up_at.trans ?_⟩
    simp [updO, updI]
  · obtain ⟨hc', h3'⟩ := h2 e' he'
    refine ⟨(by simpa [updI, ee] using hc'), (up_ne ee).trans (h3'.trans ?_)⟩
    simp [updO, updI, ee]
end
