/-! fixAfterInsertion -/
set_option maxRecDepth 100000
section
variable {n0 m : Nat} {P0 P : PH} {cmp : Value × Value} {root : Option Nat} {sz : Int32} {S : Nat → Prop} {K : Nat → Int} {kk vv L R Pa : Nat → Option Nat} {C : Nat → Int32} {lo hi : Nat → Int} {A B : Int}
theorem updI_s {f : Nat → Int32} {a : Nat} {x : Int32} : updI f a x a = x := if_pos rfl
theorem updI_o {f : Nat → Int32} {a b : Nat} {x : Int32} (h : b ≠ a) : updI f a x b = f b := if_neg h
/-- the tree as it may be while it is put right -/
def TF (n0 : Nat) (P0 P : PH) (m : Nat) (cmp : Value × Value) (sz : Int32) (S : Nat → Prop) (K : Nat → Int) (kk vv : Nat → Option Nat) (A B : Int) : Prop := TStep n0 m S P0 P ∧ ∃ root L R Pa C lo hi, TT P m cmp root sz S K kk vv L R Pa C lo hi A B ∧ ∀ rt, root = some rt → C rt = z 1

theorem finA {kf : Option Nat × PH → Option (xO × PH)} {Q : Option Value → PH → Prop} (h : TT P m cmp root sz S K kk vv L R Pa C lo hi A B) (hs : TStep n0 m S P0 P) {x p g : Nat} (hx : S x) (hxp : Pa x = some p) (hpg : Pa p = some g) (hg : L g = some p) (hne : R p ≠ some x) (hrt : ∀ rt, root = some rt → rt = g ∨ C rt = z 1) (hk : ∀ P' root L R Pa C lo hi, TT P' m cmp root sz S K kk vv L R Pa C lo hi A B → TStep n0 m S P0 P' → (Pa x = some p ∧ C p = z 1) → (∀ rt, root = some rt → C rt = z 1) → OK (kf (some x, P')) Q) : OK (f_J5_fixAfterInsertion_118 m kf (some x) P) Q := by
  have hp := (h.2.pS hx hxp).1
  have hgS := (h.2.pS hp hpg).1
  have hpx := (h.2.pne hx hxp).1
  have hgp := (h.2.pne hp hpg).1
  have hxg : x ≠ g := fun e => by subst e; exact absurd hg (h.2.pne hx hxp).2.1
  obtain ⟨P1, e1, t1, s1⟩ := h.1.set (n0 := n0) hs.1.iv hp (x := z 1) (Or.inr rfl)
  obtain ⟨P2, e2, t2, s2⟩ := t1.set (n0 := n0) s1.1.iv hgS (x := z 0) (Or.inl rfl)
  have h2 : TT P2 m cmp root sz S K kk vv L R Pa (updI (updI C p (z 1)) g (z 0)) lo hi A B := ⟨t2, h.2⟩
  obtain ⟨P3, e3, t3, s3⟩ := h2.rotateRight (n0 := n0) s2.1.iv hgS hg
  have hCp : updI (updI C p (z 1)) g (z 0) p = z 1 := (updI_o hgp.symm).trans updI_s
  simp only [f_J5_fixAfterInsertion_118, f_J5_fixAfterInsertion_148, l0, l1, h.1.par hx, hxp, xcR_rR, e1, xcV_rV, t1.par hx, t1.par hp, hpg, e2, t2.par hx, t2.par hp, e3]
  refine hk P3 _ _ _ _ _ _ _ t3 (hs.trans (s1.trans (s2.trans s3))) ⟨(rlP_o hxg hpx.symm hne).trans hxp, hCp⟩ fun rt hr => ?_
  cases hPg : Pa g with
  | none =>
    rw [rlT_n hPg] at hr
    cases hr
    exact hCp
  | some q =>
    rw [rlT_s hPg] at hr
    have hr0 := (h.2.rtS hr).2.1
    have h1 : rt ≠ g := fun e => by rw [e, hPg] at hr0; cases hr0
    have h3 : rt ≠ p := fun e => by rw [e, hpg] at hr0; cases hr0
    rw [updI_o h1, updI_o h3]
    exact (hrt rt hr).resolve_left h1

theorem finB {kf : Option Nat × PH → Option (xO × PH)} {Q : Option Value → PH → Prop} (h : TT P m cmp root sz S K kk vv L R Pa C lo hi A B) (hs : TStep n0 m S P0 P) {x p g : Nat} (hx : S x) (hxp : Pa x = some p) (hpg : Pa p = some g) (hg : R g = some p) (hne : L p ≠ some x) (hrt : ∀ rt, root = some rt → rt = g ∨ C rt = z 1) (hk : ∀ P' root L R Pa C lo hi, TT P' m cmp root sz S K kk vv L R Pa C lo hi A B → TStep n0 m S P0 P' → (Pa x = some p ∧ C p = z 1) → (∀ rt, root = some rt → C rt = z 1) → OK (kf (some x, P')) Q) : OK (f_J5_fixAfterInsertion_225 m kf (some x) P) Q := by
  have hp := (h.2.pS hx hxp).1
  have hgS := (h.2.pS hp hpg).1
  have hpx := (h.2.pne hx hxp).1
  have hgp := (h.2.pne hp hpg).1
  have hxg : x ≠ g := fun e => by subst e; exact absurd hg (h.2.pne hx hxp).2.2
  obtain ⟨P1, e1, t1, s1⟩ := h.1.set (n0 := n0) hs.1.iv hp (x := z 1) (Or.inr rfl)
  obtain ⟨P2, e2, t2, s2⟩ := t1.set (n0 := n0) s1.1.iv hgS (x := z 0) (Or.inl rfl)
  have h2 : TT P2 m cmp root sz S K kk vv L R Pa (updI (updI C p (z 1)) g (z 0)) lo hi A B := ⟨t2, h.2⟩
  obtain ⟨P3, e3, t3, s3⟩ := h2.rotateLeft (n0 := n0) s2.1.iv hgS hg
  have hCp : updI (updI C p (z 1)) g (z 0) p = z 1 := (updI_o hgp.symm).trans updI_s
  simp only [f_J5_fixAfterInsertion_225, f_J5_fixAfterInsertion_255, l0, l1, h.1.par hx, hxp, xcR_rR, e1, xcV_rV, t1.par hx, t1.par hp, hpg, e2, t2.par hx, t2.par hp, e3]
  refine hk P3 _ _ _ _ _ _ _ t3 (hs.trans (s1.trans (s2.trans s3))) ⟨(rlP_o hxg hpx.symm hne).trans hxp, hCp⟩ fun rt hr => ?_
  cases hPg : Pa g with
  | none =>
    rw [rlT_n hPg] at hr
    cases hr
    exact hCp
  | some q =>
    rw [rlT_s hPg] at hr
    have hr0 := (h.2.rtS hr).2.1
    have h1 : rt ≠ g := fun e => by rw [e, hPg] at hr0; cases hr0
    have h3 : rt ≠ p := fun e => by rw [e, hpg] at hr0; cases hr0
    rw [updI_o h1, updI_o h3]
    exact (hrt rt hr).resolve_left h1

theorem fix_ins {es : List Nat} (hes : ∀ e, S e → e ∈ es) (hl : es.length ≤ 5000) (h : TT P m cmp root sz S K kk vv L R Pa C lo hi A B) (hI : Iv P) {x : Nat} (hx : S x) (hrt : ∀ rt, root = some rt → rt = x ∨ C rt = z 1) : ∃ P', f_J5_fixAfterInsertion P m (some x) = rV P' ∧ TF n0 P P' m cmp sz S K kk vv A B := by
  suffices hS : OK (f_J5_fixAfterInsertion P m (some x)) (fun v P' => v = none ∧ TF n0 P P' m cmp sz S K kk vv A B) by
    obtain ⟨v, P', e, rfl, r⟩ := hS
    exact ⟨P', e, r⟩
  obtain ⟨P1, w1, t1, s1⟩ := h.1.wC (n0 := n0) hI hx (z 0) (Or.inl rfl)
  have hrt1 : ∀ rt, root = some rt → rt = x ∨ updI C x (z 0) rt = z 1 := fun rt hr => by
    by_cases e : rt = x
    · exact Or.inl e
    · exact Or.inr ((updI_o e).trans ((hrt rt hr).resolve_left e))
  unfold f_J5_fixAfterInsertion
  rw [h.1.cl, xnul_s, show (0 : Int32) = z 0 from rfl, w1]
  refine ok_lpn (fun d p => ∃ (x : Nat) (P1 : PH) (root : Option Nat) (L R Pa : Nat → Option Nat) (C : Nat → Int32) (lo hi : Nat → Int), p = (some x, P1) ∧ S x ∧ TT P1 m cmp root sz S K kk vv L R Pa C lo hi A B ∧ TStep n0 m S P P1 ∧ (∀ rt, root = some rt → rt = x ∨ C rt = z 1) ∧ ((d = 0 ∧ ∃ p, Pa x = some p ∧ C p = z 1) ∨ d = 1 + (es.length - icnt es K (lo x) (hi x)))) ?_ FU _ _ ⟨x, P1, _, _, _, _, _, _, _, rfl, hx, ⟨t1, h.2⟩, s1, hrt1, Or.inr rfl⟩ (by simp only [FU]; omega)
  clear hrt1 w1 t1 s1 h hrt hx
  rintro kf d pr ⟨x, P1, root, L, R, Pa, C, lo, hi, rfl, hx, h1, h2, hrt, hd⟩ hk
  have hend : OK (f_J5_fixAfterInsertion_258 m P1) (fun v P' => v = none ∧ TF n0 P P' m cmp sz S K kk vv A B) := by
    cases hr : root with
    | none => exact absurd hx (h1.2.2.1 hr x)
    | some rt =>
      obtain ⟨P2, w2, t2, s2⟩ := h1.1.wC (n0 := n0) h2.1.iv (h1.2.rtS hr).1 (z 1) (Or.inr rfl)
      unfold f_J5_fixAfterInsertion_258
      rw [h1.1.gT, hr, xnul_s, show (1 : Int32) = z 1 from rfl, w2]
      refine ok_rV.mpr ⟨rfl, h2.trans s2, root, L, R, Pa, _, lo, hi, ⟨t2, h1.2⟩, fun rt' hr' => ?_⟩
      rw [hr] at hr'
      cases hr'
      exact updI_s
  unfold f_J5_fixAfterInsertion_5F
  simp only
  rw [xnul_s, h1.1.gT]
  refine ok_ite (fun c1 => hend) fun c1 => ?_
  have hxr : root ≠ some x := fun e => c1 e.symm
  cases hxp : Pa x with
  | none => exact absurd (h1.2.rt hx hxp) hxr
  | some p =>
    have hp := (h1.2.pS hx hxp).1
    rw [h1.1.gPa hx, hxp, xnul_s, h1.1.gC hp]
    refine ok_ite (fun c2 => ?_) fun c2 => hend
    have c2 : C p = z 0 := c2
    have hd1 : d = 1 + (es.length - icnt es K (lo x) (hi x)) := by
      rcases hd with ⟨_, p', h3, h4⟩ | hd
      · rw [hxp] at h3
        cases h3
        rw [c2] at h4
        exact absurd h4 (by decide)
      · exact hd
    have hrt' : ∀ rt, root = some rt → C rt = z 1 := fun rt hr => (hrt rt hr).resolve_left (fun e => hxr (e ▸ hr))
    have hpx := (h1.2.pne hx hxp).1
    cases hpg : Pa p with
    | none =>
      have := hrt' p (h1.2.rt hp hpg)
      rw [c2] at this
      exact absurd this (by decide)
    | some g =>
      have hgS := (h1.2.pS hp hpg).1
      have hgp := (h1.2.pne hp hpg).1
      have hxg : x ≠ g := fun e => by
        subst e
        rcases (h1.2.pS hp hpg).2 with e | e
        · exact absurd e (h1.2.pne hx hxp).2.1
        · exact absurd e (h1.2.pne hx hxp).2.2
      have hk0 : ∀ (y q : Nat), S y → ∀ P' root L R Pa C lo hi, TT P' m cmp root sz S K kk vv L R Pa C lo hi A B → TStep n0 m S P P' → (Pa y = some q ∧ C q = z 1) → (∀ rt, root = some rt → C rt = z 1) → OK (kf (some y, P')) (fun v P' => v = none ∧ TF n0 P P' m cmp sz S K kk vv A B) := fun y q hy P' root L R Pa C lo hi u1 u2 u3 u4 => hk 0 _ (by omega) ⟨y, P', root, L, R, Pa, C, lo, hi, rfl, hy, u1, u2, fun rt hr => Or.inr (u4 rt hr), Or.inl ⟨rfl, q, u3⟩⟩
      -- the uncle is red: on with g
      have hred : ∀ (u : Nat), S u → OK (xcV (f_J5_setColor P1 (some p) (z 1)) fun p90 => xcV (f_J5_setColor p90 (some u) (z 1)) fun p91 => xcV (f_J5_setColor p91 (some g) (z 0)) fun p96 => kf (some g, p96)) (fun v P' => v = none ∧ TF n0 P P' m cmp sz S K kk vv A B) := by
        intro u hu
        obtain ⟨Q1, a1, b1, d1⟩ := h1.1.set (n0 := n0) h2.1.iv hp (x := z 1) (Or.inr rfl)
        obtain ⟨Q2, a2, b2, d2⟩ := b1.set (n0 := n0) d1.1.iv hu (x := z 1) (Or.inr rfl)
        obtain ⟨Q3, a3, b3, d3⟩ := b2.set (n0 := n0) d2.1.iv hgS (x := z 0) (Or.inl rfl)
        rw [a1, xcV_rV, a2, xcV_rV, a3, xcV_rV]
        have hkg := h1.2.key hgS
        have hkp := h1.2.key hp
        have hkx := h1.2.key hx
        have hlt : icnt es K (lo x) (hi x) < icnt es K (lo g) (hi g) := by
          have q1 : lo g ≤ lo p ∧ hi p ≤ hi g := by
            rcases (h1.2.pS hp hpg).2 with e | e
            · have := (h1.2.lS hgS e).2.2; omega
            · have := (h1.2.rS hgS e).2.2; omega
          rcases (h1.2.pS hx hxp).2 with e | e
          · have := (h1.2.lS hp e).2.2
            exact icnt_lt (hes p hp) (by omega) (by omega) (by omega) (by omega)
          · have := (h1.2.rS hp e).2.2
            exact icnt_lt (hes p hp) (by omega) (by omega) (by omega) (by omega)
        have hle := icnt_le es K (lo g) (hi g)
        refine hk _ _ (by omega) ⟨g, Q3, root, L, R, Pa, _, lo, hi, rfl, hgS, ⟨b3, h1.2⟩, h2.trans (d1.trans (d2.trans d3)), fun rt hr => ?_, Or.inr rfl⟩
        by_cases e : rt = g
        · exact Or.inl e
        · refine Or.inr ((updI_o e).trans ?_)
          by_cases e2 : rt = u
          · rw [e2]; exact updI_s
          · rw [updI_o e2]
            by_cases e3 : rt = p
            · rw [e3]; exact updI_s
            · rw [updI_o e3]; exact hrt' rt hr

      simp only [l0, l1, h1.1.par hx, hxp, xcR_rR, h1.1.par hp, hpg, h1.1.lef hgS]
      refine ok_ite (fun c3 => ?_) fun c3 => ?_
      · have HG : L g = some p := c3.symm

        have hzig : R p = some x → OK (xcV (f_J5_rotateLeft P1 m (some p)) fun p87 => f_J5_fixAfterInsertion_118 m kf (some p) p87) (fun v P' => v = none ∧ TF n0 P P' m cmp sz S K kk vv A B) := by
          intro hRp
          obtain ⟨P4, e4, t4, s4⟩ := h1.rotateLeft (n0 := n0) h2.1.iv hp hRp
          rw [e4, xcV_rV]
          refine finA t4 (h2.trans s4) hp rlP_p ((rlP_r hpx.symm).trans hpg) (rlL_q hpg HG hxg.symm) (t4.2.lr hx rlL_r) (fun rt hr => ?_) (hk0 p x hp)
          rw [rlT_s hpg] at hr
          exact Or.inr (hrt' rt hr)
        have hzag : R p ≠ some x → OK (f_J5_fixAfterInsertion_118 m kf (some x) P1) (fun v P' => v = none ∧ TF n0 P P' m cmp sz S K kk vv A B) := fun hRp => finA h1 h2 hx hxp hpg HG hRp (fun rt hr => Or.inr (hrt' rt hr)) (hk0 x p hx)

        simp only [h1.1.rig hgS, xcR_rR]
        cases hu : R g with
        | none =>
          simp only [clr_n, xcI_rI, h1.1.par hx, hxp, h1.1.rig hp, xcR_rR, show ¬ (z 1 = z 0) by decide, ↓reduceIte]
          exact ok_ite (fun c5 => hzig c5.symm) fun c5 => hzag fun e => c5 e.symm
        | some u =>
          have huS := (h1.2.rS hgS hu).1
          simp only [h1.1.clr huS, xcI_rI]
          refine ok_ite (fun c4 => ?_) fun c4 => ?_
          · have := hred u huS
            obtain ⟨Q1, a1, b1, d1⟩ := h1.1.set (n0 := n0) h2.1.iv hp (x := z 1) (Or.inr rfl)
            obtain ⟨Q2, a2, b2, d2⟩ := b1.set (n0 := n0) d1.1.iv huS (x := z 1) (Or.inr rfl)
            obtain ⟨Q3, a3, b3, d3⟩ := b2.set (n0 := n0) d2.1.iv hgS (x := z 0) (Or.inl rfl)
            rw [a1, xcV_rV, a2, xcV_rV, a3, xcV_rV] at this
            simp only [h1.1.par hx, a1, xcV_rV, a2, b2.par hx, hxp, xcR_rR, b2.par hp, hpg, a3, b3.par hx, b3.par hp, f_J5_fixAfterInsertion_148]
            exact this
          · simp only [h1.1.par hx, hxp, h1.1.rig hp, xcR_rR]
            exact ok_ite (fun c5 => hzig c5.symm) fun c5 => hzag fun e => c5 e.symm
      · have HG : R g = some p := (h1.2.pS hp hpg).2.resolve_left fun e => c3 e.symm

        have hzig : L p = some x → OK (xcV (f_J5_rotateRight P1 m (some p)) fun p87 => f_J5_fixAfterInsertion_225 m kf (some p) p87) (fun v P' => v = none ∧ TF n0 P P' m cmp sz S K kk vv A B) := by
          intro hRp
          obtain ⟨P4, e4, t4, s4⟩ := h1.rotateRight (n0 := n0) h2.1.iv hp hRp
          rw [e4, xcV_rV]
          refine finB t4 (h2.trans s4) hp rlP_p ((rlP_r hpx.symm).trans hpg) (rlL_q hpg HG hxg.symm) (fun e => t4.2.lr hx e rlL_r) (fun rt hr => ?_) (hk0 p x hp)
          rw [rlT_s hpg] at hr
          exact Or.inr (hrt' rt hr)
        have hzag : L p ≠ some x → OK (f_J5_fixAfterInsertion_225 m kf (some x) P1) (fun v P' => v = none ∧ TF n0 P P' m cmp sz S K kk vv A B) := fun hRp => finB h1 h2 hx hxp hpg HG hRp (fun rt hr => Or.inr (hrt' rt hr)) (hk0 x p hx)

        cases hu : L g with
        | none =>
          simp only [clr_n, xcI_rI, h1.1.par hx, hxp, h1.1.lef hp, xcR_rR, show ¬ (z 1 = z 0) by decide, ↓reduceIte]
          exact ok_ite (fun c5 => hzig c5.symm) fun c5 => hzag fun e => c5 e.symm
        | some u =>
          have huS := (h1.2.lS hgS hu).1
          simp only [h1.1.clr huS, xcI_rI]
          refine ok_ite (fun c4 => ?_) fun c4 => ?_
          · have := hred u huS
            obtain ⟨Q1, a1, b1, d1⟩ := h1.1.set (n0 := n0) h2.1.iv hp (x := z 1) (Or.inr rfl)
            obtain ⟨Q2, a2, b2, d2⟩ := b1.set (n0 := n0) d1.1.iv huS (x := z 1) (Or.inr rfl)
            obtain ⟨Q3, a3, b3, d3⟩ := b2.set (n0 := n0) d2.1.iv hgS (x := z 0) (Or.inl rfl)
            rw [a1, xcV_rV, a2, xcV_rV, a3, xcV_rV] at this
            simp only [h1.1.par hx, a1, xcV_rV, a2, b2.par hx, hxp, xcR_rR, b2.par hp, hpg, a3, b3.par hx, b3.par hp, f_J5_fixAfterInsertion_255]
            exact this
          · simp only [h1.1.par hx, hxp, h1.1.lef hp, xcR_rR]
            exact ok_ite (fun c5 => hzig c5.symm) fun c5 => hzag fun e => c5 e.symm
end
