/-! TEXTS IN ORDER -/
set_option maxRecDepth 100000
theorem chr_z {c : Int} (h0 : 0 ≤ c) (h1 : c < 128) : ((z c &&& 255).toUInt32 % 65536).toInt32 = z c := by
  have h : ∀ k : Fin 128, ((z ((k.val : Nat) : Int) &&& 255).toUInt32 % 65536).toInt32 = z ((k.val : Nat) : Int) := by decide
  have := h ⟨c.toNat, by omega⟩
  have e : ((c.toNat : Nat) : Int) = c := by omega
  simpa [e] using this
theorem chr_n {c : Int} (h0 : 0 ≤ c) (h1 : c < 128) : vp_nar .char (z c) = z c := by
  have h : ∀ k : Fin 128, vp_nar .char (z ((k.val : Nat) : Int)) = z ((k.val : Nat) : Int) := by decide
  have := h ⟨c.toNat, by omega⟩
  have e : ((c.toNat : Nat) : Int) = c := by omega
  simpa [e] using this
theorem coder_z {P : PH} {s : Nat} {w : Bool} {x : Value} {fs : List Value} (h : P.1 s = some (w, oB 16 (x :: .int (z 0) :: fs))) : f_J6_coder P s = rI (z 0) P := by
  unfold f_J6_coder
  rw [xcl1_s h, if_neg (by decide), xgI_s (k := 1) h rfl]
  rfl
theorem getChar_z {P : PH} {b n : Nat} {w : Bool} {f : Nat → Int32} {i c : Int} (h : P.1 b = some (w, .inl (2, n, .inl f))) (h0 : 0 ≤ i) (h1 : i < n) (hn : n ≤ 100000) (hc : f i.toNat = z c) (c0 : 0 ≤ c) (c1 : c < 128) : f_J7_getChar P (some b) (z i) = rI (z c) P := by
  unfold f_J7_getChar
  rw [xnul_s, xaI_s h h0 h1 hn, hc, chr_z c0 c1, chr_n c0 c1, if_pos rfl]
/-- where two rows of letters first differ -/
theorem mismatch_z {P : PH} {b b' n n' k : Nat} {w w' : Bool} {f f' : Nat → Int32} (h : P.1 b = some (w, .inl (2, n, .inl f))) (h' : P.1 b' = some (w', .inl (2, n', .inl f'))) (hk : k ≤ n) (hk' : k ≤ n') (hn : n ≤ 7) (hn' : n' ≤ 7) : ∃ i : Int, f_J16_mismatch P (some b) (some b') (z k) = rI (z i) P ∧ ((i = -1 ∧ ∀ j, j < k → f j = f' j) ∨ (0 ≤ i ∧ i < k ∧ f i.toNat ≠ f' i.toNat ∧ ∀ j, j < i.toNat → f j = f' j)) := by
  suffices hS : OK (f_J16_mismatch P (some b) (some b') (z k)) (fun v P' => P' = P ∧ ∃ i : Int, v = some (.int (z i)) ∧ ((i = -1 ∧ ∀ j, j < k → f j = f' j) ∨ (0 ≤ i ∧ i < k ∧ f i.toNat ≠ f' i.toNat ∧ ∀ j, j < i.toNat → f j = f' j))) by
    obtain ⟨v, P', e, rfl, i, rfl, hi⟩ := hS
    exact ⟨i, e, hi⟩
  unfold f_J16_mismatch
  simp (disch := omega) only [z_add, z_sub, z_mul, z_neg, zlt, zle, zeq, zne, l0, l1, l2, l3, l4, l5, l6, l7, l8, l9, l10, l11, l16, l17, l20, l24, l32, l37, l47, l57, l60, l67, l77, l97, l99, l122, l48, l57, l100, l237, l397, l600, l900, l880, l9998, l9999, bnd, xcI_rI, xcV_rV, xcR_rR, zb0, zb1, nz0, nz1, nar_z0, nar_z1, nar_b2, ↓reduceIte]
  rw [if_pos (by omega)]
  refine ok_lpn (fun d p => ∃ i : Nat, p = (some b, some b', z k, z i, P) ∧ d = k - i ∧ i ≤ k ∧ ∀ j, j < i → f j = f' j) ?_ FU _ _ ⟨0, rfl, rfl, by omega, fun j hj => by omega⟩ (by simp only [FU]; omega)
  rintro kk d p ⟨i, rfl, rfl, h2, h3⟩ hk0
  unfold f_J16_mismatch_49F
  simp (disch := omega) only [z_add, z_sub, z_mul, z_neg, zlt, zle, zeq, zne, l0, l1, l2, l3, l4, l5, l6, l7, l8, l9, l10, l11, l16, l17, l20, l24, l32, l37, l47, l57, l60, l67, l77, l97, l99, l122, l48, l57, l100, l237, l397, l600, l900, l880, l9998, l9999, bnd, xcI_rI, xcV_rV, xcR_rR, zb0, zb1, nz0, nz1, nar_z0, nar_z1, nar_b2, ↓reduceIte]
  refine ok_ite (fun c1 => ok_rI.mpr ⟨rfl, -1, rfl, Or.inl ⟨rfl, fun j hj => h3 j (by omega)⟩⟩) fun c1 => ?_
  rw [xnul_s, xaI_s h (by omega) (by omega) (by omega), xnul_s, xaI_s h' (by omega) (by omega) (by omega)]
  refine ok_ite (fun c2 => hk0 _ _ ?_ ⟨i + 1, rfl, rfl, by omega, fun j hj => ?_⟩) fun c2 => ok_rI.mpr ⟨rfl, i, rfl, Or.inr ⟨by omega, by omega, c2, fun j hj => h3 j (by omega)⟩⟩
  · omega
  · by_cases e : j = i
    · rw [e]; exact c2
    · exact h3 j (by omega)
theorem getD_map {l : List Int} {j : Nat} (h : j < l.length) {f : Nat → Int32} (hf : ∀ i (h : i < (l.map z).length), f i = (l.map z)[i]) : f j = z (l.getD j 0) := by
  rw [hf j (by simpa using h)]
  simp [List.getD, h]
theorem z_inj {a b : Int} (h1 : -2147483648 ≤ a) (h2 : a < 2147483648) (h3 : -2147483648 ≤ b) (h4 : b < 2147483648) (h : z a = z b) : a = b := (z_eq ⟨h1, h2⟩ ⟨h3, h4⟩).mp h
theorem getD_let {l : List Int} {j : Nat} (hl : letS l) (h : j < l.length) : 97 ≤ l.getD j 0 ∧ l.getD j 0 ≤ 122 := by
  have : l.getD j 0 = l[j] := by simp [List.getD, h]
  rw [this]
  exact hl _ (List.getElem_mem h)
theorem getD_out {l : List Int} {j : Nat} (h : l.length ≤ j) : l.getD j 0 = 0 := by simp [List.getD, h]
theorem kcmp1 {P : PH} {a b : Nat} {x y : Int} (ha : KR 1 P a x) (hb : KR 1 P b y) : ∃ c, f_J6_compareTo P a (some b) = rI c P ∧ sgq c x y := by
  obtain ⟨n, l, ⟨q, fs, f, -, h1, h2, h3⟩, hl, hn, rfl⟩ := ha
  obtain ⟨n', l', ⟨q', fs', f', -, g1, g2, g3⟩, hl', hn', rfl⟩ := hb
  unfold f_J6_compareTo f_J6_compareTo_2
  rw [xcl1_s h1, xcst_s g1 (by decide), xcl1_s h1, xgR_s h1 rfl, xnul_s, xgR_s g1 rfl, coder_z h1, xcI_rI, coder_z g1, xcI_rI, if_pos rfl, if_pos (show z 0 = 0 from rfl)]
  unfold f_J7_compareTo f_J7_compareTo_2 f_J8_min
  rw [xnul_s, xlen_s h2 (by omega), xnul_s, xlen_s g2 (by omega)]
  have hm : ∃ k : Nat, (k = l.length ∨ k = l'.length) ∧ k ≤ l.length ∧ k ≤ l'.length ∧ (if z (l'.map z).length < z (l.map z).length then rI (z (l'.map z).length) P else rI (z (l.map z).length) P) = rI (z k) P := by
    simp only [List.length_map]
    simp (disch := omega) only [z_add, z_sub, z_mul, z_neg, zlt, zle, zeq, zne, l0, l1, l2, l3, l4, l5, l6, l7, l8, l9, l10, l11, l16, l17, l20, l24, l32, l37, l47, l57, l60, l67, l77, l97, l99, l122, l48, l57, l100, l237, l397, l600, l900, l880, l9998, l9999, bnd, xcI_rI, xcV_rV, xcR_rR, zb0, zb1, nz0, nz1, nar_z0, nar_z1, nar_b2, ↓reduceIte]
    by_cases c : (l'.length : Int) < l.length
    · exact ⟨l'.length, Or.inr rfl, by omega, by omega, if_pos c⟩
    · exact ⟨l.length, Or.inl rfl, by omega, by omega, if_neg c⟩
  obtain ⟨k, k0, k1, k2, e⟩ := hm
  rw [e, xcI_rI]
  obtain ⟨i, e1, e2⟩ := mismatch_z h2 g2 (k := k) (by simpa using k1) (by simpa using k2) (by simpa using (by omega : l.length ≤ 7)) (by simpa using (by omega : l'.length ≤ 7))
  rw [e1, xcI_rI]
  have heq : ∀ j, j < l.length → j < l'.length → f j = f' j → l.getD j 0 = l'.getD j 0 := fun j hj hj' h => by
    rw [getD_map hj h3, getD_map hj' g3] at h
    have h5 := getD_let hl hj
    have h6 := getD_let hl' hj'
    exact z_inj (by omega) (by omega) (by omega) (by omega) h
  have b1 := rkS_lt 6 l hl
  have b2 := rkS_lt 6 l' hl'
  rcases e2 with ⟨rfl, h5⟩ | ⟨h5, h6, h7, h8⟩
  · rw [if_neg (by decide)]
    simp only [List.length_map, z_sub]
    refine ⟨_, rfl, _, rfl, by unfold rg; omega, ?_⟩
    by_cases c1 : l.length < l'.length
    · have := rkS_dif 6 l l' hl hl' hn hn' l.length (fun j hj => heq j hj (by omega) (h5 j (by omega))) c1 (fun h => by omega) (by omega)
      omega
    · by_cases c2 : l'.length < l.length
      · have := rkS_dif 6 l' l hl' hl hn' hn l'.length (fun j hj => (heq j (by omega) hj (h5 j (by omega))).symm) c2 (fun h => by omega) (by omega)
        omega
      · have : l = l' := by
          apply List.ext_getElem (by omega)
          intro j hj hj'
          have := heq j hj hj' (h5 j (by omega))
          simpa [List.getD, hj, hj'] using this
        subst this
        omega
  · simp (disch := omega) only [z_add, z_sub, z_mul, z_neg, zlt, zle, zeq, zne, l0, l1, l2, l3, l4, l5, l6, l7, l8, l9, l10, l11, l16, l17, l20, l24, l32, l37, l47, l57, l60, l67, l77, l97, l99, l122, l48, l57, l100, l237, l397, l600, l900, l880, l9998, l9999, bnd, xcI_rI, xcV_rV, xcR_rR, zb0, zb1, nz0, nz1, nar_z0, nar_z1, nar_b2, ↓reduceIte]
    rw [if_pos h5]
    have j1 : i.toNat < l.length := by omega
    have j2 : i.toNat < l'.length := by omega
    have d1 := getD_let hl j1
    have d2 := getD_let hl' j2
    rw [getChar_z h2 h5 (by simp only [List.length_map]; omega) (by simp only [List.length_map]; omega) (getD_map j1 h3) (by omega) (by omega), xcI_rI, getChar_z g2 h5 (by simp only [List.length_map]; omega) (by simp only [List.length_map]; omega) (getD_map j2 g3) (by omega) (by omega), xcI_rI, z_sub]
    refine ⟨_, rfl, _, rfl, by unfold rg; omega, ?_⟩
    have hne : l.getD i.toNat 0 ≠ l'.getD i.toNat 0 := fun e => h7 (by rw [getD_map j1 h3, getD_map j2 g3, e])
    by_cases c1 : l.getD i.toNat 0 < l'.getD i.toNat 0
    · have := rkS_dif 6 l l' hl hl' hn hn' i.toNat (fun j hj => heq j (by omega) (by omega) (h8 j hj)) j2 (fun _ => c1) (by omega)
      omega
    · have := rkS_dif 6 l' l hl' hl hn' hn i.toNat (fun j hj => (heq j (by omega) (by omega) (h8 j hj)).symm) j1 (fun _ => by omega) (by omega)
      omega
