/-! the twin's calls over pure heaps; its constructor; the law -/
set_option maxRecDepth 100000
set_option maxHeartbeats 4000000
def tdE (P : PH) (a : Nat) : TE := (P, a, fun k => match P.1 a with
  | some (_, .inr (_, fs)) => (match fs[k]? with
    | some (.ref b) => b
    | _ => 0)
  | _ => 0)
def tdS (P : PH) (a : Nat) : TS := (fun k => match P.1 a with
  | some (_, .inr (_, fs)) => (match fs[k]? with
    | some (.int x) => x
    | _ => 0)
  | _ => 0, fun j => match P.1 ((tdE P a).2.2 j) with
  | some (_, .inl (_, _, .inl f)) => f
  | _ => fun _ => 0)
noncomputable def tH (F : TS → Option (xO × TS)) (P : PH) (a : Nat) : Option (xO × PH) := @ite _ (tok (tdE P a) ∧ temb (tdE P a) (tdS P a) = P) (Classical.propDecidable _) (tm (tdE P a) (F (tdS P a))) none
theorem tH_ok {G : xG} {F : TS → Option (xO × TS)} {P : PH} {a d : Nat} {y : MethodName} {bytes : ByteArray} {maxL : Nat} {rt : Option FieldType} {As : List Value} (h : ∀ (E : TE) (s : TS), tok E → CTT G E d y bytes maxL rt (.ref E.2.1 :: As) s (F s)) : CT G d y bytes maxL rt (.ref a :: As) P (tH F P a) := by
  unfold tH
  split
  · rename_i hc
    have := h (tdE P a) (tdS P a) hc.1
    have e : temb (tdE P a) (tdS P a) = P := hc.2
    show CT G d y bytes maxL rt (.ref (tdE P a).2.1 :: As) P (tm (tdE P a) (F (tdS P a)))
    rw [← e]
    rw [e]
    have t := this
    unfold CTT at t
    rw [e] at t
    exact t
  · exact fun _ _ h => nomatch h
theorem tH_rc {F : TS → Option (xO × TS)} {P : PH} {a : Nat} : ∀ z, tH F P a = some z → xco P a = some 1 := by
  intro z h
  unfold tH at h
  split at h
  · rename_i hc
    have h1 := temb_o (tdE P a) (tdS P a)
    rw [hc.2] at h1
    have h2 : P.1 a = some (true, .inr (1, tfs (tdE P a) (tdS P a))) := h1
    unfold xco
    rw [h2]
  · cases h
noncomputable def g_feed (p0 : PH) (a0 : Nat) (a1 : Int32) (a2 : Int32) (a3 : Int32) (a4 : Int32) (a5 : Int32) : Option (xO × PH) := tH (fun s => T_feed s a1 a2 a3 a4 a5) p0 a0
theorem g_feed_ok {G : xG} (hO : xOK G) (p0 : PH) (a0 : Nat) (a1 : Int32) (a2 : Int32) (a3 : Int32) (a4 : Int32) (a5 : Int32) : CT G 1 yX2_feed cX2_feed 6 (Option.some Jvm.ClassFile.FieldType.int) (.ref a0 :: [.int a1, .int a2, .int a3, .int a4, .int a5]) p0 (g_feed p0 a0 a1 a2 a3 a4 a5) := tH_ok fun E s hE => T_feed_ok hO hE s a1 a2 a3 a4 a5
theorem rc_X2_feed {p0 : PH} {a0 : Nat} {a1 : Int32} {a2 : Int32} {a3 : Int32} {a4 : Int32} {a5 : Int32} : ∀ z, g_feed p0 a0 a1 a2 a3 a4 a5 = some z → xco p0 a0 = some 1 := tH_rc
noncomputable def g_text (p0 : PH) (a0 : Nat) (a1 : Int32) : Option (xO × PH) := tH (fun s => T_text s a1) p0 a0
theorem g_text_ok {G : xG} (hO : xOK G) (p0 : PH) (a0 : Nat) (a1 : Int32) : CT G 10 yX2_text cX2_text 2 (Option.some Jvm.ClassFile.FieldType.int) (.ref a0 :: [.int a1]) p0 (g_text p0 a0 a1) := tH_ok fun E s hE => T_text_ok hO hE s a1
theorem rc_X2_text {p0 : PH} {a0 : Nat} {a1 : Int32} : ∀ z, g_text p0 a0 a1 = some z → xco p0 a0 = some 1 := tH_rc
noncomputable def g_fault (p0 : PH) (a0 : Nat)  : Option (xO × PH) := tH (fun s => T_fault s ) p0 a0
theorem g_fault_ok {G : xG} (hO : xOK G) (p0 : PH) (a0 : Nat)  : CT G 0 yX2_fault cX2_fault 1 (Option.some Jvm.ClassFile.FieldType.int) (.ref a0 :: []) p0 (g_fault p0 a0 ) := tH_ok fun E s hE => T_fault_ok hO hE s 
theorem rc_X2_fault {p0 : PH} {a0 : Nat}  : ∀ z, g_fault p0 a0  = some z → xco p0 a0 = some 1 := tH_rc
noncomputable def g_where (p0 : PH) (a0 : Nat)  : Option (xO × PH) := tH (fun s => T_where s ) p0 a0
theorem g_where_ok {G : xG} (hO : xOK G) (p0 : PH) (a0 : Nat)  : CT G 0 yX2_where cX2_where 1 (Option.some Jvm.ClassFile.FieldType.int) (.ref a0 :: []) p0 (g_where p0 a0 ) := tH_ok fun E s hE => T_where_ok hO hE s 
theorem rc_X2_where {p0 : PH} {a0 : Nat}  : ∀ z, g_where p0 a0  = some z → xco p0 a0 = some 1 := tH_rc
noncomputable def g_about (p0 : PH) (a0 : Nat) (a1 : Int32) : Option (xO × PH) := tH (fun s => T_about s a1) p0 a0
theorem g_about_ok {G : xG} (hO : xOK G) (p0 : PH) (a0 : Nat) (a1 : Int32) : CT G 5 yX2_about cX2_about 2 (Option.some Jvm.ClassFile.FieldType.int) (.ref a0 :: [.int a1]) p0 (g_about p0 a0 a1) := tH_ok fun E s hE => T_about_ok hO hE s a1
theorem rc_X2_about {p0 : PH} {a0 : Nat} {a1 : Int32} : ∀ z, g_about p0 a0 a1 = some z → xco p0 a0 = some 1 := tH_rc
noncomputable def g_course (p0 : PH) (a0 : Nat) (a1 : Int32) (a2 : Int32) : Option (xO × PH) := tH (fun s => T_course s a1 a2) p0 a0
theorem g_course_ok {G : xG} (hO : xOK G) (p0 : PH) (a0 : Nat) (a1 : Int32) (a2 : Int32) : CT G 8 yX2_course cX2_course 3 (Option.some Jvm.ClassFile.FieldType.int) (.ref a0 :: [.int a1, .int a2]) p0 (g_course p0 a0 a1 a2) := tH_ok fun E s hE => T_course_ok hO hE s a1 a2
theorem rc_X2_course {p0 : PH} {a0 : Nat} {a1 : Int32} {a2 : Int32} : ∀ z, g_course p0 a0 a1 a2 = some z → xco p0 a0 = some 1 := tH_rc
noncomputable def g_code (p0 : PH) (a0 : Nat) (a1 : Int32) (a2 : Int32) : Option (xO × PH) := tH (fun s => T_code s a1 a2) p0 a0
theorem g_code_ok {G : xG} (hO : xOK G) (p0 : PH) (a0 : Nat) (a1 : Int32) (a2 : Int32) : CT G 3 yX2_code cX2_code 3 (Option.some Jvm.ClassFile.FieldType.int) (.ref a0 :: [.int a1, .int a2]) p0 (g_code p0 a0 a1 a2) := tH_ok fun E s hE => T_code_ok hO hE s a1 a2
theorem rc_X2_code {p0 : PH} {a0 : Nat} {a1 : Int32} {a2 : Int32} : ∀ z, g_code p0 a0 a1 a2 = some z → xco p0 a0 = some 1 := tH_rc
noncomputable def g_runner (p0 : PH) (a0 : Nat) (a1 : Int32) (a2 : Int32) : Option (xO × PH) := tH (fun s => T_runner s a1 a2) p0 a0
theorem g_runner_ok {G : xG} (hO : xOK G) (p0 : PH) (a0 : Nat) (a1 : Int32) (a2 : Int32) : CT G 5 yX2_runner cX2_runner 4 (Option.some Jvm.ClassFile.FieldType.int) (.ref a0 :: [.int a1, .int a2]) p0 (g_runner p0 a0 a1 a2) := tH_ok fun E s hE => T_runner_ok hO hE s a1 a2
theorem rc_X2_runner {p0 : PH} {a0 : Nat} {a1 : Int32} {a2 : Int32} : ∀ z, g_runner p0 a0 a1 a2 = some z → xco p0 a0 = some 1 := tH_rc
noncomputable def g_punch (p0 : PH) (a0 : Nat) (a1 : Int32) (a2 : Int32) (a3 : Int32) : Option (xO × PH) := tH (fun s => T_punch s a1 a2 a3) p0 a0
theorem g_punch_ok {G : xG} (hO : xOK G) (p0 : PH) (a0 : Nat) (a1 : Int32) (a2 : Int32) (a3 : Int32) : CT G 3 yX2_punch cX2_punch 5 (Option.some Jvm.ClassFile.FieldType.int) (.ref a0 :: [.int a1, .int a2, .int a3]) p0 (g_punch p0 a0 a1 a2 a3) := tH_ok fun E s hE => T_punch_ok hO hE s a1 a2 a3
theorem rc_X2_punch {p0 : PH} {a0 : Nat} {a1 : Int32} {a2 : Int32} {a3 : Int32} : ∀ z, g_punch p0 a0 a1 a2 a3 = some z → xco p0 a0 = some 1 := tH_rc
noncomputable def g_misses (p0 : PH) (a0 : Nat) (a1 : Int32) (a2 : Int32) : Option (xO × PH) := tH (fun s => T_misses s a1 a2) p0 a0
theorem g_misses_ok {G : xG} (hO : xOK G) (p0 : PH) (a0 : Nat) (a1 : Int32) (a2 : Int32) : CT G 2 yX2_misses cX2_misses 3 (Option.some Jvm.ClassFile.FieldType.int) (.ref a0 :: [.int a1, .int a2]) p0 (g_misses p0 a0 a1 a2) := tH_ok fun E s hE => T_misses_ok hO hE s a1 a2
theorem rc_X2_misses {p0 : PH} {a0 : Nat} {a1 : Int32} {a2 : Int32} : ∀ z, g_misses p0 a0 a1 a2 = some z → xco p0 a0 = some 1 := tH_rc
noncomputable def g_fits (p0 : PH) (a0 : Nat) (a1 : Int32) : Option (xO × PH) := tH (fun s => T_fits s a1) p0 a0
theorem g_fits_ok {G : xG} (hO : xOK G) (p0 : PH) (a0 : Nat) (a1 : Int32) : CT G 2 yX2_fits cX2_fits 6 (Option.some Jvm.ClassFile.FieldType.int) (.ref a0 :: [.int a1]) p0 (g_fits p0 a0 a1) := tH_ok fun E s hE => T_fits_ok hO hE s a1
theorem rc_X2_fits {p0 : PH} {a0 : Nat} {a1 : Int32} : ∀ z, g_fits p0 a0 a1 = some z → xco p0 a0 = some 1 := tH_rc
noncomputable def g_missed (p0 : PH) (a0 : Nat) (a1 : Int32) : Option (xO × PH) := tH (fun s => T_missed s a1) p0 a0
theorem g_missed_ok {G : xG} (hO : xOK G) (p0 : PH) (a0 : Nat) (a1 : Int32) : CT G 3 yX2_missed cX2_missed 4 (Option.some Jvm.ClassFile.FieldType.int) (.ref a0 :: [.int a1]) p0 (g_missed p0 a0 a1) := tH_ok fun E s hE => T_missed_ok hO hE s a1
theorem rc_X2_missed {p0 : PH} {a0 : Nat} {a1 : Int32} : ∀ z, g_missed p0 a0 a1 = some z → xco p0 a0 = some 1 := tH_rc
noncomputable def g_split (p0 : PH) (a0 : Nat) (a1 : Int32) (a2 : Int32) (a3 : Int32) : Option (xO × PH) := tH (fun s => T_split s a1 a2 a3) p0 a0
theorem g_split_ok {G : xG} (hO : xOK G) (p0 : PH) (a0 : Nat) (a1 : Int32) (a2 : Int32) (a3 : Int32) : CT G 6 yX2_split cX2_split 5 (Option.some Jvm.ClassFile.FieldType.int) (.ref a0 :: [.int a1, .int a2, .int a3]) p0 (g_split p0 a0 a1 a2 a3) := tH_ok fun E s hE => T_split_ok hO hE s a1 a2 a3
theorem rc_X2_split {p0 : PH} {a0 : Nat} {a1 : Int32} {a2 : Int32} {a3 : Int32} : ∀ z, g_split p0 a0 a1 a2 a3 = some z → xco p0 a0 = some 1 := tH_rc
noncomputable def g_leg (p0 : PH) (a0 : Nat) (a1 : Int32) (a2 : Int32) (a3 : Int32) : Option (xO × PH) := tH (fun s => T_leg s a1 a2 a3) p0 a0
theorem g_leg_ok {G : xG} (hO : xOK G) (p0 : PH) (a0 : Nat) (a1 : Int32) (a2 : Int32) (a3 : Int32) : CT G 9 yX2_leg cX2_leg 5 (Option.some Jvm.ClassFile.FieldType.int) (.ref a0 :: [.int a1, .int a2, .int a3]) p0 (g_leg p0 a0 a1 a2 a3) := tH_ok fun E s hE => T_leg_ok hO hE s a1 a2 a3
theorem rc_X2_leg {p0 : PH} {a0 : Nat} {a1 : Int32} {a2 : Int32} {a3 : Int32} : ∀ z, g_leg p0 a0 a1 a2 a3 = some z → xco p0 a0 = some 1 := tH_rc
noncomputable def g_best (p0 : PH) (a0 : Nat) (a1 : Int32) (a2 : Int32) (a3 : Int32) : Option (xO × PH) := tH (fun s => T_best s a1 a2 a3) p0 a0
theorem g_best_ok {G : xG} (hO : xOK G) (p0 : PH) (a0 : Nat) (a1 : Int32) (a2 : Int32) (a3 : Int32) : CT G 7 yX2_best cX2_best 4 (Option.some Jvm.ClassFile.FieldType.int) (.ref a0 :: [.int a1, .int a2, .int a3]) p0 (g_best p0 a0 a1 a2 a3) := tH_ok fun E s hE => T_best_ok hO hE s a1 a2 a3
theorem rc_X2_best {p0 : PH} {a0 : Nat} {a1 : Int32} {a2 : Int32} {a3 : Int32} : ∀ z, g_best p0 a0 a1 a2 a3 = some z → xco p0 a0 = some 1 := tH_rc
noncomputable def g_leads (p0 : PH) (a0 : Nat) (a1 : Int32) (a2 : Int32) : Option (xO × PH) := tH (fun s => T_leads s a1 a2) p0 a0
theorem g_leads_ok {G : xG} (hO : xOK G) (p0 : PH) (a0 : Nat) (a1 : Int32) (a2 : Int32) : CT G 6 yX2_leads cX2_leads 3 (Option.some Jvm.ClassFile.FieldType.int) (.ref a0 :: [.int a1, .int a2]) p0 (g_leads p0 a0 a1 a2) := tH_ok fun E s hE => T_leads_ok hO hE s a1 a2
theorem rc_X2_leads {p0 : PH} {a0 : Nat} {a1 : Int32} {a2 : Int32} : ∀ z, g_leads p0 a0 a1 a2 = some z → xco p0 a0 = some 1 := tH_rc
noncomputable def g_changes (p0 : PH) (a0 : Nat) (a1 : Int32) : Option (xO × PH) := tH (fun s => T_changes s a1) p0 a0
theorem g_changes_ok {G : xG} (hO : xOK G) (p0 : PH) (a0 : Nat) (a1 : Int32) : CT G 6 yX2_changes cX2_changes 6 (Option.some Jvm.ClassFile.FieldType.int) (.ref a0 :: [.int a1]) p0 (g_changes p0 a0 a1) := tH_ok fun E s hE => T_changes_ok hO hE s a1
theorem rc_X2_changes {p0 : PH} {a0 : Nat} {a1 : Int32} : ∀ z, g_changes p0 a0 a1 = some z → xco p0 a0 = some 1 := tH_rc
noncomputable def g_ranked (p0 : PH) (a0 : Nat) (a1 : Int32) (a2 : Int32) : Option (xO × PH) := tH (fun s => T_ranked s a1 a2) p0 a0
theorem g_ranked_ok {G : xG} (hO : xOK G) (p0 : PH) (a0 : Nat) (a1 : Int32) (a2 : Int32) : CT G 4 yX2_ranked cX2_ranked 7 (Option.some Jvm.ClassFile.FieldType.int) (.ref a0 :: [.int a1, .int a2]) p0 (g_ranked p0 a0 a1 a2) := tH_ok fun E s hE => T_ranked_ok hO hE s a1 a2
theorem rc_X2_ranked {p0 : PH} {a0 : Nat} {a1 : Int32} {a2 : Int32} : ∀ z, g_ranked p0 a0 a1 a2 = some z → xco p0 a0 = some 1 := tH_rc
noncomputable def g_lost (p0 : PH) (a0 : Nat) (a1 : Int32) : Option (xO × PH) := tH (fun s => T_lost s a1) p0 a0
theorem g_lost_ok {G : xG} (hO : xOK G) (p0 : PH) (a0 : Nat) (a1 : Int32) : CT G 8 yX2_lost cX2_lost 5 (Option.some Jvm.ClassFile.FieldType.int) (.ref a0 :: [.int a1]) p0 (g_lost p0 a0 a1) := tH_ok fun E s hE => T_lost_ok hO hE s a1
theorem rc_X2_lost {p0 : PH} {a0 : Nat} {a1 : Int32} : ∀ z, g_lost p0 a0 a1 = some z → xco p0 a0 = some 1 := tH_rc
noncomputable def g_worst (p0 : PH) (a0 : Nat) (a1 : Int32) : Option (xO × PH) := tH (fun s => T_worst s a1) p0 a0
theorem g_worst_ok {G : xG} (hO : xOK G) (p0 : PH) (a0 : Nat) (a1 : Int32) : CT G 8 yX2_worst cX2_worst 6 (Option.some Jvm.ClassFile.FieldType.int) (.ref a0 :: [.int a1]) p0 (g_worst p0 a0 a1) := tH_ok fun E s hE => T_worst_ok hO hE s a1
theorem rc_X2_worst {p0 : PH} {a0 : Nat} {a1 : Int32} : ∀ z, g_worst p0 a0 a1 = some z → xco p0 a0 = some 1 := tH_rc
noncomputable def g_pace (p0 : PH) (a0 : Nat) (a1 : Int32) (a2 : Int32) : Option (xO × PH) := tH (fun s => T_pace s a1 a2) p0 a0
theorem g_pace_ok {G : xG} (hO : xOK G) (p0 : PH) (a0 : Nat) (a1 : Int32) (a2 : Int32) : CT G 8 yX2_pace cX2_pace 4 (Option.some Jvm.ClassFile.FieldType.int) (.ref a0 :: [.int a1, .int a2]) p0 (g_pace p0 a0 a1 a2) := tH_ok fun E s hE => T_pace_ok hO hE s a1 a2
theorem rc_X2_pace {p0 : PH} {a0 : Nat} {a1 : Int32} {a2 : Int32} : ∀ z, g_pace p0 a0 a1 a2 = some z → xco p0 a0 = some 1 := tH_rc
noncomputable def g_mistakes (p0 : PH) (a0 : Nat) (a1 : Int32) : Option (xO × PH) := tH (fun s => T_mistakes s a1) p0 a0
theorem g_mistakes_ok {G : xG} (hO : xOK G) (p0 : PH) (a0 : Nat) (a1 : Int32) : CT G 9 yX2_mistakes cX2_mistakes 4 (Option.some Jvm.ClassFile.FieldType.int) (.ref a0 :: [.int a1]) p0 (g_mistakes p0 a0 a1) := tH_ok fun E s hE => T_mistakes_ok hO hE s a1
theorem rc_X2_mistakes {p0 : PH} {a0 : Nat} {a1 : Int32} : ∀ z, g_mistakes p0 a0 a1 = some z → xco p0 a0 = some 1 := tH_rc
noncomputable def g_clean (p0 : PH) (a0 : Nat) (a1 : Int32) : Option (xO × PH) := tH (fun s => T_clean s a1) p0 a0
theorem g_clean_ok {G : xG} (hO : xOK G) (p0 : PH) (a0 : Nat) (a1 : Int32) : CT G 10 yX2_clean cX2_clean 2 (Option.some Jvm.ClassFile.FieldType.int) (.ref a0 :: [.int a1]) p0 (g_clean p0 a0 a1) := tH_ok fun E s hE => T_clean_ok hO hE s a1
theorem rc_X2_clean {p0 : PH} {a0 : Nat} {a1 : Int32} : ∀ z, g_clean p0 a0 a1 = some z → xco p0 a0 = some 1 := tH_rc
noncomputable def g_cleanPlace (p0 : PH) (a0 : Nat) (a1 : Int32) (a2 : Int32) : Option (xO × PH) := tH (fun s => T_cleanPlace s a1 a2) p0 a0
theorem g_cleanPlace_ok {G : xG} (hO : xOK G) (p0 : PH) (a0 : Nat) (a1 : Int32) (a2 : Int32) : CT G 10 yX2_cleanPlace cX2_cleanPlace 7 (Option.some Jvm.ClassFile.FieldType.int) (.ref a0 :: [.int a1, .int a2]) p0 (g_cleanPlace p0 a0 a1 a2) := tH_ok fun E s hE => T_cleanPlace_ok hO hE s a1 a2
theorem rc_X2_cleanPlace {p0 : PH} {a0 : Nat} {a1 : Int32} {a2 : Int32} : ∀ z, g_cleanPlace p0 a0 a1 a2 = some z → xco p0 a0 = some 1 := tH_rc
noncomputable def g_without (p0 : PH) (a0 : Nat) (a1 : Int32) (a2 : Int32) (a3 : Int32) : Option (xO × PH) := tH (fun s => T_without s a1 a2 a3) p0 a0
theorem g_without_ok {G : xG} (hO : xOK G) (p0 : PH) (a0 : Nat) (a1 : Int32) (a2 : Int32) (a3 : Int32) : CT G 5 yX2_without cX2_without 8 (Option.some Jvm.ClassFile.FieldType.int) (.ref a0 :: [.int a1, .int a2, .int a3]) p0 (g_without p0 a0 a1 a2 a3) := tH_ok fun E s hE => T_without_ok hO hE s a1 a2 a3
theorem rc_X2_without {p0 : PH} {a0 : Nat} {a1 : Int32} {a2 : Int32} {a3 : Int32} : ∀ z, g_without p0 a0 a1 a2 a3 = some z → xco p0 a0 = some 1 := tH_rc
noncomputable def g_hardest (p0 : PH) (a0 : Nat) (a1 : Int32) (a2 : Int32) : Option (xO × PH) := tH (fun s => T_hardest s a1 a2) p0 a0
theorem g_hardest_ok {G : xG} (hO : xOK G) (p0 : PH) (a0 : Nat) (a1 : Int32) (a2 : Int32) : CT G 9 yX2_hardest cX2_hardest 7 (Option.some Jvm.ClassFile.FieldType.int) (.ref a0 :: [.int a1, .int a2]) p0 (g_hardest p0 a0 a1 a2) := tH_ok fun E s hE => T_hardest_ok hO hE s a1 a2
theorem rc_X2_hardest {p0 : PH} {a0 : Nat} {a1 : Int32} {a2 : Int32} : ∀ z, g_hardest p0 a0 a1 a2 = some z → xco p0 a0 = some 1 := tH_rc
noncomputable def g_packs (p0 : PH) (a0 : Nat) (a1 : Int32) : Option (xO × PH) := tH (fun s => T_packs s a1) p0 a0
theorem g_packs_ok {G : xG} (hO : xOK G) (p0 : PH) (a0 : Nat) (a1 : Int32) : CT G 4 yX2_packs cX2_packs 3 (Option.some Jvm.ClassFile.FieldType.int) (.ref a0 :: [.int a1]) p0 (g_packs p0 a0 a1) := tH_ok fun E s hE => T_packs_ok hO hE s a1
theorem rc_X2_packs {p0 : PH} {a0 : Nat} {a1 : Int32} : ∀ z, g_packs p0 a0 a1 = some z → xco p0 a0 = some 1 := tH_rc
noncomputable def g_pack (p0 : PH) (a0 : Nat) (a1 : Int32) (a2 : Int32) (a3 : Int32) : Option (xO × PH) := tH (fun s => T_pack s a1 a2 a3) p0 a0
theorem g_pack_ok {G : xG} (hO : xOK G) (p0 : PH) (a0 : Nat) (a1 : Int32) (a2 : Int32) (a3 : Int32) : CT G 4 yX2_pack cX2_pack 6 (Option.some Jvm.ClassFile.FieldType.int) (.ref a0 :: [.int a1, .int a2, .int a3]) p0 (g_pack p0 a0 a1 a2 a3) := tH_ok fun E s hE => T_pack_ok hO hE s a1 a2 a3
theorem rc_X2_pack {p0 : PH} {a0 : Nat} {a1 : Int32} {a2 : Int32} {a3 : Int32} : ∀ z, g_pack p0 a0 a1 a2 a3 = some z → xco p0 a0 = some 1 := tH_rc
noncomputable def g_together (p0 : PH) (a0 : Nat) (a1 : Int32) (a2 : Int32) : Option (xO × PH) := tH (fun s => T_together s a1 a2) p0 a0
theorem g_together_ok {G : xG} (hO : xOK G) (p0 : PH) (a0 : Nat) (a1 : Int32) (a2 : Int32) : CT G 5 yX2_together cX2_together 3 (Option.some Jvm.ClassFile.FieldType.int) (.ref a0 :: [.int a1, .int a2]) p0 (g_together p0 a0 a1 a2) := tH_ok fun E s hE => T_together_ok hO hE s a1 a2
theorem rc_X2_together {p0 : PH} {a0 : Nat} {a1 : Int32} {a2 : Int32} : ∀ z, g_together p0 a0 a1 a2 = some z → xco p0 a0 = some 1 := tH_rc
noncomputable def g_alone (p0 : PH) (a0 : Nat) (a1 : Int32) : Option (xO × PH) := tH (fun s => T_alone s a1) p0 a0
theorem g_alone_ok {G : xG} (hO : xOK G) (p0 : PH) (a0 : Nat) (a1 : Int32) : CT G 5 yX2_alone cX2_alone 4 (Option.some Jvm.ClassFile.FieldType.int) (.ref a0 :: [.int a1]) p0 (g_alone p0 a0 a1) := tH_ok fun E s hE => T_alone_ok hO hE s a1
theorem rc_X2_alone {p0 : PH} {a0 : Nat} {a1 : Int32} : ∀ z, g_alone p0 a0 a1 = some z → xco p0 a0 = some 1 := tH_rc
noncomputable def g_chase (p0 : PH) (a0 : Nat) (a1 : Int32) (a2 : Int32) (a3 : Int32) : Option (xO × PH) := tH (fun s => T_chase s a1 a2 a3) p0 a0
theorem g_chase_ok {G : xG} (hO : xOK G) (p0 : PH) (a0 : Nat) (a1 : Int32) (a2 : Int32) (a3 : Int32) : CT G 5 yX2_chase cX2_chase 10 (Option.some Jvm.ClassFile.FieldType.int) (.ref a0 :: [.int a1, .int a2, .int a3]) p0 (g_chase p0 a0 a1 a2 a3) := tH_ok fun E s hE => T_chase_ok hO hE s a1 a2 a3
theorem rc_X2_chase {p0 : PH} {a0 : Nat} {a1 : Int32} {a2 : Int32} {a3 : Int32} : ∀ z, g_chase p0 a0 a1 a2 a3 = some z → xco p0 a0 = some 1 := tH_rc
noncomputable def g_team (p0 : PH) (a0 : Nat) (a1 : Int32) (a2 : Int32) : Option (xO × PH) := tH (fun s => T_team s a1 a2) p0 a0
theorem g_team_ok {G : xG} (hO : xOK G) (p0 : PH) (a0 : Nat) (a1 : Int32) (a2 : Int32) : CT G 6 yX2_team cX2_team 3 (Option.some Jvm.ClassFile.FieldType.int) (.ref a0 :: [.int a1, .int a2]) p0 (g_team p0 a0 a1 a2) := tH_ok fun E s hE => T_team_ok hO hE s a1 a2
theorem rc_X2_team {p0 : PH} {a0 : Nat} {a1 : Int32} {a2 : Int32} : ∀ z, g_team p0 a0 a1 a2 = some z → xco p0 a0 = some 1 := tH_rc
noncomputable def g_mate (p0 : PH) (a0 : Nat) (a1 : Int32) : Option (xO × PH) := tH (fun s => T_mate s a1) p0 a0
theorem g_mate_ok {G : xG} (hO : xOK G) (p0 : PH) (a0 : Nat) (a1 : Int32) : CT G 6 yX2_mate cX2_mate 6 (Option.some Jvm.ClassFile.FieldType.int) (.ref a0 :: [.int a1]) p0 (g_mate p0 a0 a1) := tH_ok fun E s hE => T_mate_ok hO hE s a1
theorem rc_X2_mate {p0 : PH} {a0 : Nat} {a1 : Int32} : ∀ z, g_mate p0 a0 a1 = some z → xco p0 a0 = some 1 := tH_rc
noncomputable def g_passes (p0 : PH) (a0 : Nat) (a1 : Int32) (a2 : Int32) : Option (xO × PH) := tH (fun s => T_passes s a1 a2) p0 a0
theorem g_passes_ok {G : xG} (hO : xOK G) (p0 : PH) (a0 : Nat) (a1 : Int32) (a2 : Int32) : CT G 4 yX2_passes cX2_passes 10 (Option.some Jvm.ClassFile.FieldType.int) (.ref a0 :: [.int a1, .int a2]) p0 (g_passes p0 a0 a1 a2) := tH_ok fun E s hE => T_passes_ok hO hE s a1 a2
theorem rc_X2_passes {p0 : PH} {a0 : Nat} {a1 : Int32} {a2 : Int32} : ∀ z, g_passes p0 a0 a1 a2 = some z → xco p0 a0 = some 1 := tH_rc
noncomputable def g_crowd (p0 : PH) (a0 : Nat) (a1 : Int32) : Option (xO × PH) := tH (fun s => T_crowd s a1) p0 a0
theorem g_crowd_ok {G : xG} (hO : xOK G) (p0 : PH) (a0 : Nat) (a1 : Int32) : CT G 1 yX2_crowd cX2_crowd 8 (Option.some Jvm.ClassFile.FieldType.int) (.ref a0 :: [.int a1]) p0 (g_crowd p0 a0 a1) := tH_ok fun E s hE => T_crowd_ok hO hE s a1
theorem rc_X2_crowd {p0 : PH} {a0 : Nat} {a1 : Int32} : ∀ z, g_crowd p0 a0 a1 = some z → xco p0 a0 = some 1 := tH_rc
noncomputable def g_over (p0 : PH) (a0 : Nat) (a1 : Int32) (a2 : Int32) (a3 : Int32) : Option (xO × PH) := tH (fun s => T_over s a1 a2 a3) p0 a0
theorem g_over_ok {G : xG} (hO : xOK G) (p0 : PH) (a0 : Nat) (a1 : Int32) (a2 : Int32) (a3 : Int32) : CT G 5 yX2_over cX2_over 10 (Option.some Jvm.ClassFile.FieldType.int) (.ref a0 :: [.int a1, .int a2, .int a3]) p0 (g_over p0 a0 a1 a2 a3) := tH_ok fun E s hE => T_over_ok hO hE s a1 a2 a3
theorem rc_X2_over {p0 : PH} {a0 : Nat} {a1 : Int32} {a2 : Int32} {a3 : Int32} : ∀ z, g_over p0 a0 a1 a2 a3 = some z → xco p0 a0 = some 1 := tH_rc
noncomputable def g_common (p0 : PH) (a0 : Nat) (a1 : Int32) (a2 : Int32) : Option (xO × PH) := tH (fun s => T_common s a1 a2) p0 a0
theorem g_common_ok {G : xG} (hO : xOK G) (p0 : PH) (a0 : Nat) (a1 : Int32) (a2 : Int32) : CT G 2 yX2_common cX2_common 7 (Option.some Jvm.ClassFile.FieldType.int) (.ref a0 :: [.int a1, .int a2]) p0 (g_common p0 a0 a1 a2) := tH_ok fun E s hE => T_common_ok hO hE s a1 a2
theorem rc_X2_common {p0 : PH} {a0 : Nat} {a1 : Int32} {a2 : Int32} : ∀ z, g_common p0 a0 a1 a2 = some z → xco p0 a0 = some 1 := tH_rc
noncomputable def g_add (p0 : PH) (a0 : Nat) (a1 : Int32) (a2 : Int32) (a3 : Int32) : Option (xO × PH) := tH (fun s => T_add s a1 a2 a3) p0 a0
theorem g_add_ok {G : xG} (hO : xOK G) (p0 : PH) (a0 : Nat) (a1 : Int32) (a2 : Int32) (a3 : Int32) : CT G 2 yX2_add cX2_add 8 (Option.some Jvm.ClassFile.FieldType.int) (.ref a0 :: [.int a1, .int a2, .int a3]) p0 (g_add p0 a0 a1 a2 a3) := tH_ok fun E s hE => T_add_ok hO hE s a1 a2 a3
theorem rc_X2_add {p0 : PH} {a0 : Nat} {a1 : Int32} {a2 : Int32} {a3 : Int32} : ∀ z, g_add p0 a0 a1 a2 a3 = some z → xco p0 a0 = some 1 := tH_rc
noncomputable def g_drop (p0 : PH) (a0 : Nat) (a1 : Int32) (a2 : Int32) : Option (xO × PH) := tH (fun s => T_drop s a1 a2) p0 a0
theorem g_drop_ok {G : xG} (hO : xOK G) (p0 : PH) (a0 : Nat) (a1 : Int32) (a2 : Int32) : CT G 3 yX2_drop cX2_drop 6 (Option.some Jvm.ClassFile.FieldType.int) (.ref a0 :: [.int a1, .int a2]) p0 (g_drop p0 a0 a1 a2) := tH_ok fun E s hE => T_drop_ok hO hE s a1 a2
theorem rc_X2_drop {p0 : PH} {a0 : Nat} {a1 : Int32} {a2 : Int32} : ∀ z, g_drop p0 a0 a1 a2 = some z → xco p0 a0 = some 1 := tH_rc
noncomputable def g_start (p0 : PH) (a0 : Nat) (a1 : Int32) (a2 : Int32) : Option (xO × PH) := tH (fun s => T_start s a1 a2) p0 a0
theorem g_start_ok {G : xG} (hO : xOK G) (p0 : PH) (a0 : Nat) (a1 : Int32) (a2 : Int32) : CT G 3 yX2_start cX2_start 5 (Option.some Jvm.ClassFile.FieldType.int) (.ref a0 :: [.int a1, .int a2]) p0 (g_start p0 a0 a1 a2) := tH_ok fun E s hE => T_start_ok hO hE s a1 a2
theorem rc_X2_start {p0 : PH} {a0 : Nat} {a1 : Int32} {a2 : Int32} : ∀ z, g_start p0 a0 a1 a2 = some z → xco p0 a0 = some 1 := tH_rc
noncomputable def g_finish (p0 : PH) (a0 : Nat) (a1 : Int32) (a2 : Int32) : Option (xO × PH) := tH (fun s => T_finish s a1 a2) p0 a0
theorem g_finish_ok {G : xG} (hO : xOK G) (p0 : PH) (a0 : Nat) (a1 : Int32) (a2 : Int32) : CT G 3 yX2_finish cX2_finish 5 (Option.some Jvm.ClassFile.FieldType.int) (.ref a0 :: [.int a1, .int a2]) p0 (g_finish p0 a0 a1 a2) := tH_ok fun E s hE => T_finish_ok hO hE s a1 a2
theorem rc_X2_finish {p0 : PH} {a0 : Nat} {a1 : Int32} {a2 : Int32} : ∀ z, g_finish p0 a0 a1 a2 = some z → xco p0 a0 = some 1 := tH_rc
noncomputable def g_move (p0 : PH) (a0 : Nat) (a1 : Int32) (a2 : Int32) : Option (xO × PH) := tH (fun s => T_move s a1 a2) p0 a0
theorem g_move_ok {G : xG} (hO : xOK G) (p0 : PH) (a0 : Nat) (a1 : Int32) (a2 : Int32) : CT G 3 yX2_move cX2_move 3 (Option.some Jvm.ClassFile.FieldType.int) (.ref a0 :: [.int a1, .int a2]) p0 (g_move p0 a0 a1 a2) := tH_ok fun E s hE => T_move_ok hO hE s a1 a2
theorem rc_X2_move {p0 : PH} {a0 : Nat} {a1 : Int32} {a2 : Int32} : ∀ z, g_move p0 a0 a1 a2 = some z → xco p0 a0 = some 1 := tH_rc
noncomputable def g_become (p0 : PH) (a0 : Nat) (a1 : Int32) (a2 : Int32) : Option (xO × PH) := tH (fun s => T_become s a1 a2) p0 a0
theorem g_become_ok {G : xG} (hO : xOK G) (p0 : PH) (a0 : Nat) (a1 : Int32) (a2 : Int32) : CT G 3 yX2_become cX2_become 3 (Option.some Jvm.ClassFile.FieldType.int) (.ref a0 :: [.int a1, .int a2]) p0 (g_become p0 a0 a1 a2) := tH_ok fun E s hE => T_become_ok hO hE s a1 a2
theorem rc_X2_become {p0 : PH} {a0 : Nat} {a1 : Int32} {a2 : Int32} : ∀ z, g_become p0 a0 a1 a2 = some z → xco p0 a0 = some 1 := tH_rc
noncomputable def g_recode (p0 : PH) (a0 : Nat) (a1 : Int32) (a2 : Int32) (a3 : Int32) : Option (xO × PH) := tH (fun s => T_recode s a1 a2 a3) p0 a0
theorem g_recode_ok {G : xG} (hO : xOK G) (p0 : PH) (a0 : Nat) (a1 : Int32) (a2 : Int32) (a3 : Int32) : CT G 3 yX2_recode cX2_recode 5 (Option.some Jvm.ClassFile.FieldType.int) (.ref a0 :: [.int a1, .int a2, .int a3]) p0 (g_recode p0 a0 a1 a2 a3) := tH_ok fun E s hE => T_recode_ok hO hE s a1 a2 a3
theorem rc_X2_recode {p0 : PH} {a0 : Nat} {a1 : Int32} {a2 : Int32} {a3 : Int32} : ∀ z, g_recode p0 a0 a1 a2 a3 = some z → xco p0 a0 = some 1 := tH_rc
noncomputable def g_cancel (p0 : PH) (a0 : Nat) (a1 : Int32) (a2 : Int32) : Option (xO × PH) := tH (fun s => T_cancel s a1 a2) p0 a0
theorem g_cancel_ok {G : xG} (hO : xOK G) (p0 : PH) (a0 : Nat) (a1 : Int32) (a2 : Int32) : CT G 3 yX2_cancel cX2_cancel 4 (Option.some Jvm.ClassFile.FieldType.int) (.ref a0 :: [.int a1, .int a2]) p0 (g_cancel p0 a0 a1 a2) := tH_ok fun E s hE => T_cancel_ok hO hE s a1 a2
theorem rc_X2_cancel {p0 : PH} {a0 : Nat} {a1 : Int32} {a2 : Int32} : ∀ z, g_cancel p0 a0 a1 a2 = some z → xco p0 a0 = some 1 := tH_rc
noncomputable def g_undo (p0 : PH) (a0 : Nat)  : Option (xO × PH) := tH (fun s => T_undo s ) p0 a0
theorem g_undo_ok {G : xG} (hO : xOK G) (p0 : PH) (a0 : Nat)  : CT G 1 yX2_undo cX2_undo 1 (Option.some Jvm.ClassFile.FieldType.int) (.ref a0 :: []) p0 (g_undo p0 a0 ) := tH_ok fun E s hE => T_undo_ok hO hE s 
theorem rc_X2_undo {p0 : PH} {a0 : Nat}  : ∀ z, g_undo p0 a0  = some z → xco p0 a0 = some 1 := tH_rc
noncomputable def g_named (p0 : PH) (a0 : Nat) (a1 : Int32) (a2 : Int32) : Option (xO × PH) := tH (fun s => T_named s a1 a2) p0 a0
theorem g_named_ok {G : xG} (hO : xOK G) (p0 : PH) (a0 : Nat) (a1 : Int32) (a2 : Int32) : CT G 1 yX2_named cX2_named 7 (Option.some Jvm.ClassFile.FieldType.int) (.ref a0 :: [.int a1, .int a2]) p0 (g_named p0 a0 a1 a2) := tH_ok fun E s hE => T_named_ok hO hE s a1 a2
theorem rc_X2_named {p0 : PH} {a0 : Nat} {a1 : Int32} {a2 : Int32} : ∀ z, g_named p0 a0 a1 a2 = some z → xco p0 a0 = some 1 := tH_rc
noncomputable def g_thrown (p0 : PH) (a0 : Nat)  : Option (xO × PH) := tH (fun s => T_thrown s ) p0 a0
theorem g_thrown_ok {G : xG} (hO : xOK G) (p0 : PH) (a0 : Nat)  : CT G 0 yX2_thrown cX2_thrown 1 (Option.some Jvm.ClassFile.FieldType.int) (.ref a0 :: []) p0 (g_thrown p0 a0 ) := tH_ok fun E s hE => T_thrown_ok hO hE s 
theorem rc_X2_thrown {p0 : PH} {a0 : Nat}  : ∀ z, g_thrown p0 a0  = some z → xco p0 a0 = some 1 := tH_rc
noncomputable def g_size (p0 : PH) (a0 : Nat)  : Option (xO × PH) := tH (fun s => T_size s ) p0 a0
theorem g_size_ok {G : xG} (hO : xOK G) (p0 : PH) (a0 : Nat)  : CT G 0 yX2_size cX2_size 1 (Option.some Jvm.ClassFile.FieldType.int) (.ref a0 :: []) p0 (g_size p0 a0 ) := tH_ok fun E s hE => T_size_ok hO hE s 
theorem rc_X2_size {p0 : PH} {a0 : Nat}  : ∀ z, g_size p0 a0  = some z → xco p0 a0 = some 1 := tH_rc
noncomputable def g_trouble (p0 : PH) (a0 : Nat)  : Option (xO × PH) := tH (fun s => T_trouble s ) p0 a0
theorem g_trouble_ok {G : xG} (hO : xOK G) (p0 : PH) (a0 : Nat)  : CT G 0 yX2_trouble cX2_trouble 1 (Option.some Jvm.ClassFile.FieldType.int) (.ref a0 :: []) p0 (g_trouble p0 a0 ) := tH_ok fun E s hE => T_trouble_ok hO hE s 
theorem rc_X2_trouble {p0 : PH} {a0 : Nat}  : ∀ z, g_trouble p0 a0  = some z → xco p0 a0 = some 1 := tH_rc
abbrev cX2_init : ByteArray := prog_14_method_1_code
def yX2_init : MethodName := ⟨RX2, "<init>", "()V"⟩
def dkwX2_init_4 : List UInt8 := [16, 100, 188, 10, 181, 0, 44, 42, 17, 15, 130, 188, 10, 181, 0, 47, 177]
abbrev dktX2_init_4 : List UInt8 := dkwX2_init_4 ++ []
def dkwX2_init_3 : List UInt8 := [16, 11, 188, 10, 181, 0, 35, 42, 16, 11, 188, 10, 181, 0, 38, 42, 16, 100, 188, 10, 181, 0, 41, 42]
abbrev dktX2_init_3 : List UInt8 := dkwX2_init_3 ++ dktX2_init_4
def dkwX2_init_2 : List UInt8 := [188, 10, 181, 0, 26, 42, 17, 0, 187, 188, 10, 181, 0, 29, 42, 16, 10, 188, 10, 181, 0, 32, 42]
abbrev dktX2_init_2 : List UInt8 := dkwX2_init_2 ++ dktX2_init_3
def dkwX2_init_1 : List UInt8 := [181, 0, 17, 42, 17, 1, 141, 188, 10, 181, 0, 20, 42, 16, 78, 188, 10, 181, 0, 23, 42, 16, 78]
abbrev dktX2_init_1 : List UInt8 := dkwX2_init_1 ++ dktX2_init_2
def dkwX2_init_0 : List UInt8 := [42, 183, 0, 1, 42, 2, 181, 0, 9, 42, 17, 3, 132, 188, 10, 181, 0, 13, 42, 17, 1, 141, 188, 10]
abbrev dktX2_init_0 : List UInt8 := dkwX2_init_0 ++ dktX2_init_1
theorem dksX2_init_0 : cX2_init.data.toList.drop 0 = dktX2_init_0 := by decide +kernel
theorem dksX2_init_1 : cX2_init.data.toList.drop 24 = dktX2_init_1 := dk_seg dksX2_init_0 24 rfl rfl
theorem dksX2_init_2 : cX2_init.data.toList.drop 47 = dktX2_init_2 := dk_seg dksX2_init_1 23 rfl rfl
theorem dksX2_init_3 : cX2_init.data.toList.drop 70 = dktX2_init_3 := dk_seg dksX2_init_2 23 rfl rfl
theorem dksX2_init_4 : cX2_init.data.toList.drop 94 = dktX2_init_4 := dk_seg dksX2_init_3 24 rfl rfl
theorem dX2_init_0 : decode cX2_init 0 = .ok (.aload_n 0, 1) := dk_42 (dk_at dksX2_init_0 0 rfl rfl)
theorem dX2_init_1 : decode cX2_init 1 = .ok (.invokespecial 1, 3) := dk_183 0 1 (dk_at dksX2_init_0 1 rfl rfl)
theorem dX2_init_4 : decode cX2_init 4 = .ok (.aload_n 0, 1) := dk_42 (dk_at dksX2_init_0 4 rfl rfl)
theorem dX2_init_5 : decode cX2_init 5 = .ok (.iconst (-1), 1) := dk_2 (dk_at dksX2_init_0 5 rfl rfl)
theorem dX2_init_6 : decode cX2_init 6 = .ok (.putfield 9, 3) := dk_181 0 9 (dk_at dksX2_init_0 6 rfl rfl)
theorem dX2_init_9 : decode cX2_init 9 = .ok (.aload_n 0, 1) := dk_42 (dk_at dksX2_init_0 9 rfl rfl)
theorem dX2_init_10 : decode cX2_init 10 = .ok (.sipush 900, 3) := dk_17 3 132 (dk_at dksX2_init_0 10 rfl rfl)
theorem dX2_init_13 : decode cX2_init 13 = .ok (.newarray .int, 2) := dk_188_10 (dk_at dksX2_init_0 13 rfl rfl)
theorem dX2_init_15 : decode cX2_init 15 = .ok (.putfield 13, 3) := dk_181 0 13 (dk_at dksX2_init_0 15 rfl rfl)
theorem dX2_init_18 : decode cX2_init 18 = .ok (.aload_n 0, 1) := dk_42 (dk_at dksX2_init_0 18 rfl rfl)
theorem dX2_init_19 : decode cX2_init 19 = .ok (.sipush 397, 3) := dk_17 1 141 (dk_at dksX2_init_0 19 rfl rfl)
theorem dX2_init_22 : decode cX2_init 22 = .ok (.newarray .int, 2) := dk_188_10 (dk_at dksX2_init_0 22 rfl rfl)
theorem dX2_init_24 : decode cX2_init 24 = .ok (.putfield 17, 3) := dk_181 0 17 (dk_at dksX2_init_1 0 rfl rfl)
theorem dX2_init_27 : decode cX2_init 27 = .ok (.aload_n 0, 1) := dk_42 (dk_at dksX2_init_1 3 rfl rfl)
theorem dX2_init_28 : decode cX2_init 28 = .ok (.sipush 397, 3) := dk_17 1 141 (dk_at dksX2_init_1 4 rfl rfl)
theorem dX2_init_31 : decode cX2_init 31 = .ok (.newarray .int, 2) := dk_188_10 (dk_at dksX2_init_1 7 rfl rfl)
theorem dX2_init_33 : decode cX2_init 33 = .ok (.putfield 20, 3) := dk_181 0 20 (dk_at dksX2_init_1 9 rfl rfl)
theorem dX2_init_36 : decode cX2_init 36 = .ok (.aload_n 0, 1) := dk_42 (dk_at dksX2_init_1 12 rfl rfl)
theorem dX2_init_37 : decode cX2_init 37 = .ok (.bipush 78, 2) := dk_16 78 (dk_at dksX2_init_1 13 rfl rfl)
theorem dX2_init_39 : decode cX2_init 39 = .ok (.newarray .int, 2) := dk_188_10 (dk_at dksX2_init_1 15 rfl rfl)
theorem dX2_init_41 : decode cX2_init 41 = .ok (.putfield 23, 3) := dk_181 0 23 (dk_at dksX2_init_1 17 rfl rfl)
theorem dX2_init_44 : decode cX2_init 44 = .ok (.aload_n 0, 1) := dk_42 (dk_at dksX2_init_1 20 rfl rfl)
theorem dX2_init_45 : decode cX2_init 45 = .ok (.bipush 78, 2) := dk_16 78 (dk_at dksX2_init_1 21 rfl rfl)
theorem dX2_init_47 : decode cX2_init 47 = .ok (.newarray .int, 2) := dk_188_10 (dk_at dksX2_init_2 0 rfl rfl)
theorem dX2_init_49 : decode cX2_init 49 = .ok (.putfield 26, 3) := dk_181 0 26 (dk_at dksX2_init_2 2 rfl rfl)
theorem dX2_init_52 : decode cX2_init 52 = .ok (.aload_n 0, 1) := dk_42 (dk_at dksX2_init_2 5 rfl rfl)
theorem dX2_init_53 : decode cX2_init 53 = .ok (.sipush 187, 3) := dk_17 0 187 (dk_at dksX2_init_2 6 rfl rfl)
theorem dX2_init_56 : decode cX2_init 56 = .ok (.newarray .int, 2) := dk_188_10 (dk_at dksX2_init_2 9 rfl rfl)
theorem dX2_init_58 : decode cX2_init 58 = .ok (.putfield 29, 3) := dk_181 0 29 (dk_at dksX2_init_2 11 rfl rfl)
theorem dX2_init_61 : decode cX2_init 61 = .ok (.aload_n 0, 1) := dk_42 (dk_at dksX2_init_2 14 rfl rfl)
theorem dX2_init_62 : decode cX2_init 62 = .ok (.bipush 10, 2) := dk_16 10 (dk_at dksX2_init_2 15 rfl rfl)
theorem dX2_init_64 : decode cX2_init 64 = .ok (.newarray .int, 2) := dk_188_10 (dk_at dksX2_init_2 17 rfl rfl)
theorem dX2_init_66 : decode cX2_init 66 = .ok (.putfield 32, 3) := dk_181 0 32 (dk_at dksX2_init_2 19 rfl rfl)
theorem dX2_init_69 : decode cX2_init 69 = .ok (.aload_n 0, 1) := dk_42 (dk_at dksX2_init_2 22 rfl rfl)
theorem dX2_init_70 : decode cX2_init 70 = .ok (.bipush 11, 2) := dk_16 11 (dk_at dksX2_init_3 0 rfl rfl)
theorem dX2_init_72 : decode cX2_init 72 = .ok (.newarray .int, 2) := dk_188_10 (dk_at dksX2_init_3 2 rfl rfl)
theorem dX2_init_74 : decode cX2_init 74 = .ok (.putfield 35, 3) := dk_181 0 35 (dk_at dksX2_init_3 4 rfl rfl)
theorem dX2_init_77 : decode cX2_init 77 = .ok (.aload_n 0, 1) := dk_42 (dk_at dksX2_init_3 7 rfl rfl)
theorem dX2_init_78 : decode cX2_init 78 = .ok (.bipush 11, 2) := dk_16 11 (dk_at dksX2_init_3 8 rfl rfl)
theorem dX2_init_80 : decode cX2_init 80 = .ok (.newarray .int, 2) := dk_188_10 (dk_at dksX2_init_3 10 rfl rfl)
theorem dX2_init_82 : decode cX2_init 82 = .ok (.putfield 38, 3) := dk_181 0 38 (dk_at dksX2_init_3 12 rfl rfl)
theorem dX2_init_85 : decode cX2_init 85 = .ok (.aload_n 0, 1) := dk_42 (dk_at dksX2_init_3 15 rfl rfl)
theorem dX2_init_86 : decode cX2_init 86 = .ok (.bipush 100, 2) := dk_16 100 (dk_at dksX2_init_3 16 rfl rfl)
theorem dX2_init_88 : decode cX2_init 88 = .ok (.newarray .int, 2) := dk_188_10 (dk_at dksX2_init_3 18 rfl rfl)
theorem dX2_init_90 : decode cX2_init 90 = .ok (.putfield 41, 3) := dk_181 0 41 (dk_at dksX2_init_3 20 rfl rfl)
theorem dX2_init_93 : decode cX2_init 93 = .ok (.aload_n 0, 1) := dk_42 (dk_at dksX2_init_3 23 rfl rfl)
theorem dX2_init_94 : decode cX2_init 94 = .ok (.bipush 100, 2) := dk_16 100 (dk_at dksX2_init_4 0 rfl rfl)
theorem dX2_init_96 : decode cX2_init 96 = .ok (.newarray .int, 2) := dk_188_10 (dk_at dksX2_init_4 2 rfl rfl)
theorem dX2_init_98 : decode cX2_init 98 = .ok (.putfield 44, 3) := dk_181 0 44 (dk_at dksX2_init_4 4 rfl rfl)
theorem dX2_init_101 : decode cX2_init 101 = .ok (.aload_n 0, 1) := dk_42 (dk_at dksX2_init_4 7 rfl rfl)
theorem dX2_init_102 : decode cX2_init 102 = .ok (.sipush 3970, 3) := dk_17 15 130 (dk_at dksX2_init_4 8 rfl rfl)
theorem dX2_init_105 : decode cX2_init 105 = .ok (.newarray .int, 2) := dk_188_10 (dk_at dksX2_init_4 11 rfl rfl)
theorem dX2_init_107 : decode cX2_init 107 = .ok (.putfield 47, 3) := dk_181 0 47 (dk_at dksX2_init_4 13 rfl rfl)
theorem dX2_init_110 : decode cX2_init 110 = .ok (.return_, 1) := dk_177 (dk_at dksX2_init_4 16 rfl rfl)
theorem md_X2_init : xMd yX2_init cX2_init 1 (Option.none : Option Jvm.ClassFile.FieldType) 0 := ⟨q2901, q126, by decide, by decide +kernel, by decide +kernel, by decide +kernel⟩
def f_X2_init (p0 : PH) (a0 : Nat) : Option (xO × PH) :=
  (xpF p0 a0 1 3 (.int (-1)) fun p1 =>
  (xnaI p1 1 900 fun b2 p3 =>
  (xpF p3 a0 1 4 (.ref b2) fun p4 =>
  (xnaI p4 1 397 fun b5 p6 =>
  (xpF p6 a0 1 7 (.ref b5) fun p7 =>
  (xnaI p7 1 397 fun b8 p9 =>
  (xpF p9 a0 1 8 (.ref b8) fun p10 =>
  (xnaI p10 1 78 fun b11 p12 =>
  (xpF p12 a0 1 9 (.ref b11) fun p13 =>
  (xnaI p13 1 78 fun b14 p15 =>
  (xpF p15 a0 1 10 (.ref b14) fun p16 =>
  (xnaI p16 1 187 fun b17 p18 =>
  (xpF p18 a0 1 19 (.ref b17) fun p19 =>
  (xnaI p19 1 10 fun b20 p21 =>
  (xpF p21 a0 1 20 (.ref b20) fun p22 =>
  (xnaI p22 1 11 fun b23 p24 =>
  (xpF p24 a0 1 21 (.ref b23) fun p25 =>
  (xnaI p25 1 11 fun b26 p27 =>
  (xpF p27 a0 1 22 (.ref b26) fun p28 =>
  (xnaI p28 1 100 fun b29 p30 =>
  (xpF p30 a0 1 25 (.ref b29) fun p31 =>
  (xnaI p31 1 100 fun b32 p33 =>
  (xpF p33 a0 1 26 (.ref b32) fun p34 =>
  (xnaI p34 1 3970 fun b35 p36 =>
  (xpF p36 a0 1 31 (.ref b35) fun p37 =>
  (rV p37))))))))))))))))))))))))))
theorem f_X2_init_ok {G : xG} (hO : xOK G) (p0 : PH) (a0 : Nat) : CT G 1 yX2_init cX2_init 1 (Option.none : Option Jvm.ClassFile.FieldType) [.ref a0] p0 (f_X2_init p0 a0) := by
  refine CT_of hO (by decide +kernel) (by decide +kernel) (Nat.le_of_ble_eq_true rfl) ?_
  show X G "ForestLegsModel" "<init>" cX2_init 1 (Option.none : Option Jvm.ClassFile.FieldType) 1 0 [(0, .ref a0)] [] p0 (f_X2_init p0 a0)
  refine x_aload_nr 0 dX2_init_0 rfl rfl (n := 1) rfl ?_
  refine x_objInit q2902 q186 q187 dX2_init_1 (by decide) (Nat.le_of_ble_eq_true rfl) (n := 4) rfl ?_
  refine x_aload_nr 0 dX2_init_4 rfl rfl (n := 5) rfl ?_
  refine x_iconst (-1) dX2_init_5 rfl (n := 6) rfl ?_
  refine x_pF (pl_X2_9 _ _ ⟨rfl, rfl⟩) dX2_init_6 (n := 9) rfl (fun p1 => ?_)
  refine x_aload_nr 0 dX2_init_9 rfl rfl (n := 10) rfl ?_
  refine x_sipush 900 dX2_init_10 rfl (n := 13) rfl ?_
  refine x_newI (t := 1) (atype := .int) rfl q241 rfl (by decide) dX2_init_13 (n := 15) rfl (fun b2 p3 => ?_)
  refine x_pF (pl_X2_13 _ (xfit_a (some b2))) dX2_init_15 (n := 18) rfl (fun p4 => ?_)
  refine x_aload_nr 0 dX2_init_18 rfl rfl (n := 19) rfl ?_
  refine x_sipush 397 dX2_init_19 rfl (n := 22) rfl ?_
  refine x_newI (t := 1) (atype := .int) rfl q241 rfl (by decide) dX2_init_22 (n := 24) rfl (fun b5 p6 => ?_)
  refine x_pF (pl_X2_17 _ (xfit_a (some b5))) dX2_init_24 (n := 27) rfl (fun p7 => ?_)
  refine x_aload_nr 0 dX2_init_27 rfl rfl (n := 28) rfl ?_
  refine x_sipush 397 dX2_init_28 rfl (n := 31) rfl ?_
  refine x_newI (t := 1) (atype := .int) rfl q241 rfl (by decide) dX2_init_31 (n := 33) rfl (fun b8 p9 => ?_)
  refine x_pF (pl_X2_20 _ (xfit_a (some b8))) dX2_init_33 (n := 36) rfl (fun p10 => ?_)
  refine x_aload_nr 0 dX2_init_36 rfl rfl (n := 37) rfl ?_
  refine x_bipush 78 dX2_init_37 rfl (n := 39) rfl ?_
  refine x_newI (t := 1) (atype := .int) rfl q241 rfl (by decide) dX2_init_39 (n := 41) rfl (fun b11 p12 => ?_)
  refine x_pF (pl_X2_23 _ (xfit_a (some b11))) dX2_init_41 (n := 44) rfl (fun p13 => ?_)
  refine x_aload_nr 0 dX2_init_44 rfl rfl (n := 45) rfl ?_
  refine x_bipush 78 dX2_init_45 rfl (n := 47) rfl ?_
  refine x_newI (t := 1) (atype := .int) rfl q241 rfl (by decide) dX2_init_47 (n := 49) rfl (fun b14 p15 => ?_)
  refine x_pF (pl_X2_26 _ (xfit_a (some b14))) dX2_init_49 (n := 52) rfl (fun p16 => ?_)
  refine x_aload_nr 0 dX2_init_52 rfl rfl (n := 53) rfl ?_
  refine x_sipush 187 dX2_init_53 rfl (n := 56) rfl ?_
  refine x_newI (t := 1) (atype := .int) rfl q241 rfl (by decide) dX2_init_56 (n := 58) rfl (fun b17 p18 => ?_)
  refine x_pF (pl_X2_29 _ (xfit_a (some b17))) dX2_init_58 (n := 61) rfl (fun p19 => ?_)
  refine x_aload_nr 0 dX2_init_61 rfl rfl (n := 62) rfl ?_
  refine x_bipush 10 dX2_init_62 rfl (n := 64) rfl ?_
  refine x_newI (t := 1) (atype := .int) rfl q241 rfl (by decide) dX2_init_64 (n := 66) rfl (fun b20 p21 => ?_)
  refine x_pF (pl_X2_32 _ (xfit_a (some b20))) dX2_init_66 (n := 69) rfl (fun p22 => ?_)
  refine x_aload_nr 0 dX2_init_69 rfl rfl (n := 70) rfl ?_
  refine x_bipush 11 dX2_init_70 rfl (n := 72) rfl ?_
  refine x_newI (t := 1) (atype := .int) rfl q241 rfl (by decide) dX2_init_72 (n := 74) rfl (fun b23 p24 => ?_)
  refine x_pF (pl_X2_35 _ (xfit_a (some b23))) dX2_init_74 (n := 77) rfl (fun p25 => ?_)
  refine x_aload_nr 0 dX2_init_77 rfl rfl (n := 78) rfl ?_
  refine x_bipush 11 dX2_init_78 rfl (n := 80) rfl ?_
  refine x_newI (t := 1) (atype := .int) rfl q241 rfl (by decide) dX2_init_80 (n := 82) rfl (fun b26 p27 => ?_)
  refine x_pF (pl_X2_38 _ (xfit_a (some b26))) dX2_init_82 (n := 85) rfl (fun p28 => ?_)
  refine x_aload_nr 0 dX2_init_85 rfl rfl (n := 86) rfl ?_
  refine x_bipush 100 dX2_init_86 rfl (n := 88) rfl ?_
  refine x_newI (t := 1) (atype := .int) rfl q241 rfl (by decide) dX2_init_88 (n := 90) rfl (fun b29 p30 => ?_)
  refine x_pF (pl_X2_41 _ (xfit_a (some b29))) dX2_init_90 (n := 93) rfl (fun p31 => ?_)
  refine x_aload_nr 0 dX2_init_93 rfl rfl (n := 94) rfl ?_
  refine x_bipush 100 dX2_init_94 rfl (n := 96) rfl ?_
  refine x_newI (t := 1) (atype := .int) rfl q241 rfl (by decide) dX2_init_96 (n := 98) rfl (fun b32 p33 => ?_)
  refine x_pF (pl_X2_44 _ (xfit_a (some b32))) dX2_init_98 (n := 101) rfl (fun p34 => ?_)
  refine x_aload_nr 0 dX2_init_101 rfl rfl (n := 102) rfl ?_
  refine x_sipush 3970 dX2_init_102 rfl (n := 105) rfl ?_
  refine x_newI (t := 1) (atype := .int) rfl q241 rfl (by decide) dX2_init_105 (n := 107) rfl (fun b35 p36 => ?_)
  refine x_pF (pl_X2_47 _ (xfit_a (some b35))) dX2_init_107 (n := 110) rfl (fun p37 => ?_)
  exact x_return dX2_init_110
abbrev cX0_named : ByteArray := method_3_code
def yX0_named : MethodName := ⟨RX0, "named", "(LForestLegs;IZ[J)I"⟩
def dkwX0_named_0 : List UInt8 := [45, 3, 42, 27, 28, 182, 0, 7, 133, 80, 167, 0, 7, 58, 4, 4, 172, 3, 172]
abbrev dktX0_named_0 : List UInt8 := dkwX0_named_0 ++ []
theorem dksX0_named_0 : cX0_named.data.toList.drop 0 = dktX0_named_0 := by decide +kernel
theorem dX0_named_0 : decode cX0_named 0 = .ok (.aload_n 3, 1) := dk_45 (dk_at dksX0_named_0 0 rfl rfl)
theorem dX0_named_1 : decode cX0_named 1 = .ok (.iconst 0, 1) := dk_3 (dk_at dksX0_named_0 1 rfl rfl)
theorem dX0_named_2 : decode cX0_named 2 = .ok (.aload_n 0, 1) := dk_42 (dk_at dksX0_named_0 2 rfl rfl)
theorem dX0_named_3 : decode cX0_named 3 = .ok (.iload_n 1, 1) := dk_27 (dk_at dksX0_named_0 3 rfl rfl)
theorem dX0_named_4 : decode cX0_named 4 = .ok (.iload_n 2, 1) := dk_28 (dk_at dksX0_named_0 4 rfl rfl)
theorem dX0_named_5 : decode cX0_named 5 = .ok (.invokevirtual 7, 3) := dk_182 0 7 (dk_at dksX0_named_0 5 rfl rfl)
theorem dX0_named_8 : decode cX0_named 8 = .ok (.i2l, 1) := dk_133 (dk_at dksX0_named_0 8 rfl rfl)
theorem dX0_named_9 : decode cX0_named 9 = .ok (.lastore, 1) := dk_80 (dk_at dksX0_named_0 9 rfl rfl)
theorem dX0_named_10 : decode cX0_named 10 = .ok (.goto 7, 3) := dk_167 0 7 (dk_at dksX0_named_0 10 rfl rfl)
theorem dX0_named_13 : decode cX0_named 13 = .ok (.astore 4, 2) := dk_58 4 (dk_at dksX0_named_0 13 rfl rfl)
theorem dX0_named_15 : decode cX0_named 15 = .ok (.iconst 1, 1) := dk_4 (dk_at dksX0_named_0 15 rfl rfl)
theorem dX0_named_16 : decode cX0_named 16 = .ok (.ireturn, 1) := dk_172 (dk_at dksX0_named_0 16 rfl rfl)
theorem dX0_named_17 : decode cX0_named 17 = .ok (.iconst 0, 1) := dk_3 (dk_at dksX0_named_0 17 rfl rfl)
theorem dX0_named_18 : decode cX0_named 18 = .ok (.ireturn, 1) := dk_172 (dk_at dksX0_named_0 18 rfl rfl)
theorem md_X0_named : xMdW yX0_named cX0_named 5 (Option.some Jvm.ClassFile.FieldType.int) [((0 : Nat), (10 : Nat), (13 : Nat), (13 : Nat))] 4 := ⟨q2884, q122, by decide, by decide +kernel, by decide +kernel, by decide +kernel⟩
noncomputable def f_X0_named (p0 : PH) (a0 : Option Nat) (a1 : Int32) (a2 : Int32) (a3 : Option Nat) : Option (xO × PH) :=
  (xnul a0 none fun b1 =>
  (xtI (f_X1_named p0 b1 a1 a2) (fun x3 p2 =>
  (xnul a3 none fun b4 =>
  (xsL p2 b4 3 0 x3.toInt64 fun p5 =>
  (rI 0 p5)))) fun q0 s9 => xcl1 s9 q0 21 (rI 1 s9)))
theorem f_X0_named_ok {G : xG} (hO : xOK G) (p0 : PH) (a0 : Option Nat) (a1 : Int32) (a2 : Int32) (a3 : Option Nat) : CTW G 7 yX0_named cX0_named 5 (Option.some Jvm.ClassFile.FieldType.int) [((0 : Nat), (10 : Nat), (13 : Nat), (13 : Nat))] [va_rf a0, .int a1, .int a2, va_rf a3] p0 (f_X0_named p0 a0 a1 a2 a3) := by
  refine CTW_of hO (by decide +kernel) (by decide +kernel) (lg_slen _ (by simp only [List.map, xcat]; exact Nat.le_of_ble_eq_true rfl)) ?_
  rw [show lv_args 0 [va_rf a0, .int a1, .int a2, va_rf a3] = [(0, va_rf a0), (1, .int a1), (2, .int a2), (3, va_rf a3)] from by simp only [lv_args, xcat] <;> rfl]
  show X G "ForestLegsLaw" "named" cX0_named 5 (Option.some Jvm.ClassFile.FieldType.int) 7 0 [(0, va_rf a0), (1, .int a1), (2, .int a2), (3, va_rf a3)] [] p0 (f_X0_named p0 a0 a1 a2 a3)
  refine x_aload_n 3 dX0_named_0 rfl rfl (n := 1) rfl ?_
  refine x_iconst 0 dX0_named_1 rfl (n := 2) rfl ?_
  refine x_aload_n 0 dX0_named_2 rfl rfl (n := 3) rfl ?_
  refine x_iload_n 1 dX0_named_3 rfl rfl (n := 4) rfl ?_
  refine x_iload_n 2 dX0_named_4 rfl rfl (n := 5) rfl ?_
  refine x_sm (fun b1 e => ?_)
  subst e
  refine x_callVT_I [.int a1, .int a2] [.int 0, va_rf a3] (f_X1_named_ok hO p0 b1 a1 a2) rc_X1_named md_X1_named rfl q2886 q2887 q2888 dX0_named_5 rfl rfl (by decide) (by simp only [List.map, xcat]; exact Nat.le_of_ble_eq_true rfl) (n := 8) rfl (fun x3 p2 => ?_) (fun q0 s9 => ?_)
  refine x_i2l dX0_named_8 (n := 9) rfl ?_
  refine x_sm (fun b4 e => ?_)
  subst e
  refine x_last (t := 3) rfl dX0_named_9 (n := 10) rfl (fun p5 => ?_)
  refine x_goto dX0_named_10 (n := 17) (by decide) ?_
  refine x_iconst 0 dX0_named_17 rfl (n := 18) rfl ?_
  exact x_ireturn dX0_named_18
  refine x_caught rfl (by decide) (by decide) rfl q2885 (Or.inl rfl) ?_
  refine x_astorer [(4, .ref q0), (0, .ref b1), (1, .int a1), (2, .int a2), (3, va_rf a3)] dX0_named_13 (by decide) (by simp only [xst, List.filter_cons, List.filter_nil, xcat] <;> rfl) (n := 15) rfl ?_
  refine x_iconst 1 dX0_named_15 rfl (n := 16) rfl ?_
  exact x_ireturn dX0_named_16
abbrev cL_law : ByteArray := code
def dkwL_law_77 : List UInt8 := [167, 248, 76, 4, 172]
abbrev dktL_law_77 : List UInt8 := dkwL_law_77 ++ []
def dkwL_law_76 : List UInt8 := [182, 0, 220, 159, 0, 18, 3, 172, 43, 182, 0, 221, 44, 182, 0, 224, 159, 0, 5, 3, 172, 132, 4, 6]
abbrev dktL_law_76 : List UInt8 := dkwL_law_76 ++ dktL_law_77
def dkwL_law_75 : List UInt8 := [154, 0, 15, 45, 3, 47, 21, 6, 133, 148, 153, 0, 5, 3, 172, 167, 0, 29, 43, 182, 0, 217, 44]
abbrev dktL_law_75 : List UInt8 := dkwL_law_75 ++ dktL_law_76
def dkwL_law_74 : List UInt8 := [167, 0, 4, 3, 182, 0, 213, 54, 6, 44, 182, 0, 214, 21, 5, 159, 0, 5, 3, 172, 21, 5]
abbrev dktL_law_74 : List UInt8 := dkwL_law_74 ++ dktL_law_75
def dkwL_law_73 : List UInt8 := [184, 0, 208, 54, 5, 44, 42, 21, 4, 4, 96, 46, 42, 21, 4, 5, 96, 46, 153, 0, 7, 4]
abbrev dktL_law_73 : List UInt8 := dkwL_law_73 ++ dktL_law_74
def dkwL_law_72 : List UInt8 := [3, 172, 43, 42, 21, 4, 4, 96, 46, 42, 21, 4, 5, 96, 46, 153, 0, 7, 4, 167, 0, 4, 3, 45]
abbrev dktL_law_72 : List UInt8 := dkwL_law_72 ++ dktL_law_73
def dkwL_law_71 : List UInt8 := [21, 4, 5, 96, 46, 182, 0, 203, 159, 0, 128, 3, 172, 43, 182, 0, 204, 44, 182, 0, 207, 159, 0, 115]
abbrev dktL_law_71 : List UInt8 := dkwL_law_71 ++ dktL_law_72
def dkwL_law_70 : List UInt8 := [42, 21, 4, 4, 96, 46, 42, 21, 4, 5, 96, 46, 182, 0, 200, 44, 42, 21, 4, 4, 96, 46, 42]
abbrev dktL_law_70 : List UInt8 := dkwL_law_70 ++ dktL_law_71
def dkwL_law_69 : List UInt8 := [4, 96, 46, 42, 21, 4, 5, 96, 46, 42, 21, 4, 6, 96, 46, 182, 0, 199, 159, 0, 165, 3, 172, 43]
abbrev dktL_law_69 : List UInt8 := dkwL_law_69 ++ dktL_law_70
def dkwL_law_68 : List UInt8 := [21, 4, 4, 96, 46, 42, 21, 4, 5, 96, 46, 42, 21, 4, 6, 96, 46, 182, 0, 196, 44, 42, 21, 4]
abbrev dktL_law_68 : List UInt8 := dkwL_law_68 ++ dktL_law_69
def dkwL_law_67 : List UInt8 := [44, 42, 21, 4, 4, 96, 46, 42, 21, 4, 5, 96, 46, 182, 0, 195, 159, 0, 214, 3, 172, 43, 42]
abbrev dktL_law_67 : List UInt8 := dkwL_law_67 ++ dktL_law_68
def dkwL_law_66 : List UInt8 := [182, 0, 191, 159, 0, 251, 3, 172, 43, 42, 21, 4, 4, 96, 46, 42, 21, 4, 5, 96, 46, 182, 0, 192]
abbrev dktL_law_66 : List UInt8 := dkwL_law_66 ++ dktL_law_67
def dkwL_law_65 : List UInt8 := [96, 46, 42, 21, 4, 5, 96, 46, 182, 0, 188, 44, 42, 21, 4, 4, 96, 46, 42, 21, 4, 5, 96, 46]
abbrev dktL_law_65 : List UInt8 := dkwL_law_65 ++ dktL_law_66
def dkwL_law_64 : List UInt8 := [21, 4, 4, 96, 46, 42, 21, 4, 5, 96, 46, 182, 0, 187, 159, 1, 32, 3, 172, 43, 42, 21, 4, 4]
abbrev dktL_law_64 : List UInt8 := dkwL_law_64 ++ dktL_law_65
def dkwL_law_63 : List UInt8 := [159, 1, 69, 3, 172, 43, 42, 21, 4, 4, 96, 46, 42, 21, 4, 5, 96, 46, 182, 0, 184, 44, 42]
abbrev dktL_law_63 : List UInt8 := dkwL_law_63 ++ dktL_law_64
def dkwL_law_62 : List UInt8 := [5, 96, 46, 182, 0, 180, 44, 42, 21, 4, 4, 96, 46, 42, 21, 4, 5, 96, 46, 182, 0, 183]
abbrev dktL_law_62 : List UInt8 := dkwL_law_62 ++ dktL_law_63
def dkwL_law_61 : List UInt8 := [42, 21, 4, 5, 96, 46, 182, 0, 179, 159, 1, 106, 3, 172, 43, 42, 21, 4, 4, 96, 46, 42, 21, 4]
abbrev dktL_law_61 : List UInt8 := dkwL_law_61 ++ dktL_law_62
def dkwL_law_60 : List UInt8 := [172, 43, 42, 21, 4, 4, 96, 46, 42, 21, 4, 5, 96, 46, 182, 0, 176, 44, 42, 21, 4, 4, 96, 46]
abbrev dktL_law_60 : List UInt8 := dkwL_law_60 ++ dktL_law_61
def dkwL_law_59 : List UInt8 := [21, 4, 4, 96, 46, 42, 21, 4, 5, 96, 46, 42, 21, 4, 6, 96, 46, 182, 0, 175, 159, 1, 143, 3]
abbrev dktL_law_59 : List UInt8 := dkwL_law_59 ++ dktL_law_60
def dkwL_law_58 : List UInt8 := [43, 42, 21, 4, 4, 96, 46, 42, 21, 4, 5, 96, 46, 42, 21, 4, 6, 96, 46, 182, 0, 172, 44, 42]
abbrev dktL_law_58 : List UInt8 := dkwL_law_58 ++ dktL_law_59
def dkwL_law_57 : List UInt8 := [182, 0, 168, 44, 42, 21, 4, 4, 96, 46, 42, 21, 4, 5, 96, 46, 182, 0, 171, 159, 1, 192, 3, 172]
abbrev dktL_law_57 : List UInt8 := dkwL_law_57 ++ dktL_law_58
def dkwL_law_56 : List UInt8 := [6, 96, 46, 182, 0, 167, 159, 1, 229, 3, 172, 43, 42, 21, 4, 4, 96, 46, 42, 21, 4, 5, 96, 46]
abbrev dktL_law_56 : List UInt8 := dkwL_law_56 ++ dktL_law_57
def dkwL_law_55 : List UInt8 := [21, 4, 6, 96, 46, 182, 0, 164, 44, 42, 21, 4, 4, 96, 46, 42, 21, 4, 5, 96, 46, 42, 21, 4]
abbrev dktL_law_55 : List UInt8 := dkwL_law_55 ++ dktL_law_56
def dkwL_law_54 : List UInt8 := [46, 182, 0, 163, 159, 2, 22, 3, 172, 43, 42, 21, 4, 4, 96, 46, 42, 21, 4, 5, 96, 46, 42]
abbrev dktL_law_54 : List UInt8 := dkwL_law_54 ++ dktL_law_55
def dkwL_law_53 : List UInt8 := [182, 0, 159, 159, 2, 47, 3, 172, 43, 42, 21, 4, 4, 96, 46, 182, 0, 160, 44, 42, 21, 4, 4, 96]
abbrev dktL_law_53 : List UInt8 := dkwL_law_53 ++ dktL_law_54
def dkwL_law_52 : List UInt8 := [46, 42, 21, 4, 5, 96, 46, 182, 0, 156, 44, 42, 21, 4, 4, 96, 46, 42, 21, 4, 5, 96, 46]
abbrev dktL_law_52 : List UInt8 := dkwL_law_52 ++ dktL_law_53
def dkwL_law_51 : List UInt8 := [182, 0, 152, 44, 42, 21, 4, 4, 96, 46, 182, 0, 155, 159, 2, 84, 3, 172, 43, 42, 21, 4, 4, 96]
abbrev dktL_law_51 : List UInt8 := dkwL_law_51 ++ dktL_law_52
def dkwL_law_50 : List UInt8 := [46, 42, 21, 4, 5, 96, 46, 182, 0, 151, 159, 2, 109, 3, 172, 43, 42, 21, 4, 4, 96, 46]
abbrev dktL_law_50 : List UInt8 := dkwL_law_50 ++ dktL_law_51
def dkwL_law_49 : List UInt8 := [3, 172, 43, 42, 21, 4, 4, 96, 46, 42, 21, 4, 5, 96, 46, 182, 0, 148, 44, 42, 21, 4, 4, 96]
abbrev dktL_law_49 : List UInt8 := dkwL_law_49 ++ dktL_law_50
def dkwL_law_48 : List UInt8 := [42, 21, 4, 4, 96, 46, 42, 21, 4, 5, 96, 46, 42, 21, 4, 6, 96, 46, 182, 0, 147, 159, 2, 146]
abbrev dktL_law_48 : List UInt8 := dkwL_law_48 ++ dktL_law_49
def dkwL_law_47 : List UInt8 := [172, 43, 42, 21, 4, 4, 96, 46, 42, 21, 4, 5, 96, 46, 42, 21, 4, 6, 96, 46, 182, 0, 144, 44]
abbrev dktL_law_47 : List UInt8 := dkwL_law_47 ++ dktL_law_48
def dkwL_law_46 : List UInt8 := [43, 42, 21, 4, 4, 96, 46, 182, 0, 140, 44, 42, 21, 4, 4, 96, 46, 182, 0, 143, 159, 2, 195, 3]
abbrev dktL_law_46 : List UInt8 := dkwL_law_46 ++ dktL_law_47
def dkwL_law_45 : List UInt8 := [182, 0, 136, 44, 42, 21, 4, 4, 96, 46, 42, 21, 4, 5, 96, 46, 182, 0, 139, 159, 2, 220, 3, 172]
abbrev dktL_law_45 : List UInt8 := dkwL_law_45 ++ dktL_law_46
def dkwL_law_44 : List UInt8 := [46, 182, 0, 135, 159, 3, 1, 3, 172, 43, 42, 21, 4, 4, 96, 46, 42, 21, 4, 5, 96, 46]
abbrev dktL_law_44 : List UInt8 := dkwL_law_44 ++ dktL_law_45
def dkwL_law_43 : List UInt8 := [6, 96, 46, 182, 0, 132, 44, 42, 21, 4, 4, 96, 46, 42, 21, 4, 5, 96, 46, 42, 21, 4, 6, 96]
abbrev dktL_law_43 : List UInt8 := dkwL_law_43 ++ dktL_law_44
def dkwL_law_42 : List UInt8 := [182, 0, 131, 159, 3, 50, 3, 172, 43, 42, 21, 4, 4, 96, 46, 42, 21, 4, 5, 96, 46, 42, 21, 4]
abbrev dktL_law_42 : List UInt8 := dkwL_law_42 ++ dktL_law_43
def dkwL_law_41 : List UInt8 := [159, 3, 75, 3, 172, 43, 42, 21, 4, 4, 96, 46, 182, 0, 128, 44, 42, 21, 4, 4, 96, 46]
abbrev dktL_law_41 : List UInt8 := dkwL_law_41 ++ dktL_law_42
def dkwL_law_40 : List UInt8 := [5, 96, 46, 182, 0, 124, 44, 42, 21, 4, 4, 96, 46, 42, 21, 4, 5, 96, 46, 182, 0, 127]
abbrev dktL_law_40 : List UInt8 := dkwL_law_40 ++ dktL_law_41
def dkwL_law_39 : List UInt8 := [42, 21, 4, 6, 96, 46, 182, 0, 123, 159, 3, 112, 3, 172, 43, 42, 21, 4, 4, 96, 46, 42, 21, 4]
abbrev dktL_law_39 : List UInt8 := dkwL_law_39 ++ dktL_law_40
def dkwL_law_38 : List UInt8 := [96, 46, 42, 21, 4, 6, 96, 46, 182, 0, 120, 44, 42, 21, 4, 4, 96, 46, 42, 21, 4, 5, 96, 46]
abbrev dktL_law_38 : List UInt8 := dkwL_law_38 ++ dktL_law_39
def dkwL_law_37 : List UInt8 := [21, 4, 5, 96, 46, 182, 0, 119, 159, 3, 161, 3, 172, 43, 42, 21, 4, 4, 96, 46, 42, 21, 4, 5]
abbrev dktL_law_37 : List UInt8 := dkwL_law_37 ++ dktL_law_38
def dkwL_law_36 : List UInt8 := [43, 42, 21, 4, 4, 96, 46, 42, 21, 4, 5, 96, 46, 182, 0, 116, 44, 42, 21, 4, 4, 96, 46, 42]
abbrev dktL_law_36 : List UInt8 := dkwL_law_36 ++ dktL_law_37
def dkwL_law_35 : List UInt8 := [42, 21, 4, 4, 96, 46, 182, 0, 112, 44, 42, 21, 4, 4, 96, 46, 182, 0, 115, 159, 3, 198, 3, 172]
abbrev dktL_law_35 : List UInt8 := dkwL_law_35 ++ dktL_law_36
def dkwL_law_34 : List UInt8 := [21, 4, 4, 96, 46, 182, 0, 108, 44, 42, 21, 4, 4, 96, 46, 182, 0, 111, 159, 3, 223, 3, 172, 43]
abbrev dktL_law_34 : List UInt8 := dkwL_law_34 ++ dktL_law_35
def dkwL_law_33 : List UInt8 := [44, 42, 21, 4, 4, 96, 46, 42, 21, 4, 5, 96, 46, 182, 0, 107, 159, 3, 248, 3, 172, 43, 42]
abbrev dktL_law_33 : List UInt8 := dkwL_law_33 ++ dktL_law_34
def dkwL_law_32 : List UInt8 := [182, 0, 103, 159, 4, 29, 3, 172, 43, 42, 21, 4, 4, 96, 46, 42, 21, 4, 5, 96, 46, 182, 0, 104]
abbrev dktL_law_32 : List UInt8 := dkwL_law_32 ++ dktL_law_33
def dkwL_law_31 : List UInt8 := [159, 4, 54, 3, 172, 43, 42, 21, 4, 4, 96, 46, 182, 0, 100, 44, 42, 21, 4, 4, 96, 46]
abbrev dktL_law_31 : List UInt8 := dkwL_law_31 ++ dktL_law_32
def dkwL_law_30 : List UInt8 := [3, 172, 43, 42, 21, 4, 4, 96, 46, 182, 0, 96, 44, 42, 21, 4, 4, 96, 46, 182, 0, 99]
abbrev dktL_law_30 : List UInt8 := dkwL_law_30 ++ dktL_law_31
def dkwL_law_29 : List UInt8 := [96, 46, 182, 0, 92, 44, 42, 21, 4, 4, 96, 46, 42, 21, 4, 5, 96, 46, 182, 0, 95, 159, 4, 79]
abbrev dktL_law_29 : List UInt8 := dkwL_law_29 ++ dktL_law_30
def dkwL_law_28 : List UInt8 := [21, 4, 4, 96, 46, 182, 0, 91, 159, 4, 116, 3, 172, 43, 42, 21, 4, 4, 96, 46, 42, 21, 4, 5]
abbrev dktL_law_28 : List UInt8 := dkwL_law_28 ++ dktL_law_29
def dkwL_law_27 : List UInt8 := [5, 96, 46, 182, 0, 87, 159, 4, 141, 3, 172, 43, 42, 21, 4, 4, 96, 46, 182, 0, 88, 44, 42]
abbrev dktL_law_27 : List UInt8 := dkwL_law_27 ++ dktL_law_28
def dkwL_law_26 : List UInt8 := [21, 4, 4, 96, 46, 42, 21, 4, 5, 96, 46, 182, 0, 84, 44, 42, 21, 4, 4, 96, 46, 42, 21, 4]
abbrev dktL_law_26 : List UInt8 := dkwL_law_26 ++ dktL_law_27
def dkwL_law_25 : List UInt8 := [46, 42, 21, 4, 5, 96, 46, 42, 21, 4, 6, 96, 46, 182, 0, 83, 159, 4, 178, 3, 172, 43, 42]
abbrev dktL_law_25 : List UInt8 := dkwL_law_25 ++ dktL_law_26
def dkwL_law_24 : List UInt8 := [4, 96, 46, 42, 21, 4, 5, 96, 46, 42, 21, 4, 6, 96, 46, 182, 0, 80, 44, 42, 21, 4, 4, 96]
abbrev dktL_law_24 : List UInt8 := dkwL_law_24 ++ dktL_law_25
def dkwL_law_23 : List UInt8 := [42, 21, 4, 5, 96, 46, 42, 21, 4, 6, 96, 46, 182, 0, 79, 159, 4, 227, 3, 172, 43, 42, 21, 4]
abbrev dktL_law_23 : List UInt8 := dkwL_law_23 ++ dktL_law_24
def dkwL_law_22 : List UInt8 := [96, 46, 42, 21, 4, 5, 96, 46, 42, 21, 4, 6, 96, 46, 182, 0, 76, 44, 42, 21, 4, 4, 96, 46]
abbrev dktL_law_22 : List UInt8 := dkwL_law_22 ++ dktL_law_23
def dkwL_law_21 : List UInt8 := [21, 4, 5, 96, 46, 42, 21, 4, 6, 96, 46, 182, 0, 75, 159, 5, 20, 3, 172, 43, 42, 21, 4, 4]
abbrev dktL_law_21 : List UInt8 := dkwL_law_21 ++ dktL_law_22
def dkwL_law_20 : List UInt8 := [46, 42, 21, 4, 5, 96, 46, 42, 21, 4, 6, 96, 46, 182, 0, 72, 44, 42, 21, 4, 4, 96, 46, 42]
abbrev dktL_law_20 : List UInt8 := dkwL_law_20 ++ dktL_law_21
def dkwL_law_19 : List UInt8 := [182, 0, 68, 44, 42, 21, 4, 4, 96, 46, 182, 0, 71, 159, 5, 69, 3, 172, 43, 42, 21, 4, 4, 96]
abbrev dktL_law_19 : List UInt8 := dkwL_law_19 ++ dktL_law_20
def dkwL_law_18 : List UInt8 := [44, 42, 21, 4, 4, 96, 46, 182, 0, 67, 159, 5, 94, 3, 172, 43, 42, 21, 4, 4, 96, 46]
abbrev dktL_law_18 : List UInt8 := dkwL_law_18 ++ dktL_law_19
def dkwL_law_17 : List UInt8 := [42, 21, 4, 5, 96, 46, 182, 0, 63, 159, 5, 119, 3, 172, 43, 42, 21, 4, 4, 96, 46, 182, 0, 64]
abbrev dktL_law_17 : List UInt8 := dkwL_law_17 ++ dktL_law_18
def dkwL_law_16 : List UInt8 := [172, 43, 42, 21, 4, 4, 96, 46, 42, 21, 4, 5, 96, 46, 182, 0, 60, 44, 42, 21, 4, 4, 96, 46]
abbrev dktL_law_16 : List UInt8 := dkwL_law_16 ++ dktL_law_17
def dkwL_law_15 : List UInt8 := [21, 4, 4, 96, 46, 42, 21, 4, 5, 96, 46, 42, 21, 4, 6, 96, 46, 182, 0, 59, 159, 5, 156, 3]
abbrev dktL_law_15 : List UInt8 := dkwL_law_15 ++ dktL_law_16
def dkwL_law_14 : List UInt8 := [43, 42, 21, 4, 4, 96, 46, 42, 21, 4, 5, 96, 46, 42, 21, 4, 6, 96, 46, 182, 0, 55, 44, 42]
abbrev dktL_law_14 : List UInt8 := dkwL_law_14 ++ dktL_law_15
def dkwL_law_13 : List UInt8 := [182, 0, 51, 44, 42, 21, 4, 4, 96, 46, 42, 21, 4, 5, 96, 46, 182, 0, 54, 159, 5, 205, 3, 172]
abbrev dktL_law_13 : List UInt8 := dkwL_law_13 ++ dktL_law_14
def dkwL_law_12 : List UInt8 := [5, 96, 46, 182, 0, 50, 159, 5, 242, 3, 172, 43, 42, 21, 4, 4, 96, 46, 42, 21, 4, 5, 96, 46]
abbrev dktL_law_12 : List UInt8 := dkwL_law_12 ++ dktL_law_13
def dkwL_law_11 : List UInt8 := [21, 4, 4, 96, 46, 42, 21, 4, 5, 96, 46, 182, 0, 47, 44, 42, 21, 4, 4, 96, 46, 42, 21, 4]
abbrev dktL_law_11 : List UInt8 := dkwL_law_11 ++ dktL_law_12
def dkwL_law_10 : List UInt8 := [44, 42, 21, 4, 4, 96, 46, 42, 21, 4, 5, 96, 46, 182, 0, 46, 159, 6, 23, 3, 172, 43, 42]
abbrev dktL_law_10 : List UInt8 := dkwL_law_10 ++ dktL_law_11
def dkwL_law_9 : List UInt8 := [182, 0, 41, 159, 6, 60, 3, 172, 43, 42, 21, 4, 4, 96, 46, 42, 21, 4, 5, 96, 46, 182, 0, 42]
abbrev dktL_law_9 : List UInt8 := dkwL_law_9 ++ dktL_law_10
def dkwL_law_8 : List UInt8 := [159, 6, 85, 3, 172, 43, 42, 21, 4, 4, 96, 46, 182, 0, 38, 44, 42, 21, 4, 4, 96, 46]
abbrev dktL_law_8 : List UInt8 := dkwL_law_8 ++ dktL_law_9
def dkwL_law_7 : List UInt8 := [3, 172, 43, 182, 0, 29, 44, 182, 0, 33, 159, 6, 98, 3, 172, 43, 182, 0, 34, 44, 182, 0, 37]
abbrev dktL_law_7 : List UInt8 := dkwL_law_7 ++ dktL_law_8
def dkwL_law_6 : List UInt8 := [172, 43, 42, 21, 4, 4, 96, 46, 182, 0, 24, 44, 42, 21, 4, 4, 96, 46, 182, 0, 28, 159, 6, 111]
abbrev dktL_law_6 : List UInt8 := dkwL_law_6 ++ dktL_law_7
def dkwL_law_5 : List UInt8 := [21, 4, 6, 96, 46, 42, 21, 4, 7, 96, 46, 42, 21, 4, 8, 96, 46, 182, 0, 23, 159, 6, 136, 3]
abbrev dktL_law_5 : List UInt8 := dkwL_law_5 ++ dktL_law_6
def dkwL_law_4 : List UInt8 := [46, 42, 21, 4, 8, 96, 46, 182, 0, 19, 44, 42, 21, 4, 4, 96, 46, 42, 21, 4, 5, 96, 46, 42]
abbrev dktL_law_4 : List UInt8 := dkwL_law_4 ++ dktL_law_5
def dkwL_law_3 : List UInt8 := [43, 42, 21, 4, 4, 96, 46, 42, 21, 4, 5, 96, 46, 42, 21, 4, 6, 96, 46, 42, 21, 4, 7, 96]
abbrev dktL_law_3 : List UInt8 := dkwL_law_3 ++ dktL_law_4
def dkwL_law_2 : List UInt8 := [170, 0, 0, 0, 0, 0, 7, 160, 0, 0, 0, 0, 0, 0, 0, 48, 0, 0, 0, 212, 0, 0, 1, 29, 0, 0, 1, 54, 0, 0, 1, 67, 0, 0, 1, 80, 0, 0, 1, 105, 0, 0, 1, 142, 0, 0, 1, 179, 0, 0, 1, 216, 0, 0, 2, 9, 0, 0, 2, 46, 0, 0, 2, 71, 0, 0, 2, 96, 0, 0, 2, 145, 0, 0, 2, 194, 0, 0, 2, 243, 0, 0, 3, 24, 0, 0, 3, 49, 0, 0, 3, 86, 0, 0, 3, 111, 0, 0, 3, 136, 0, 0, 3, 173, 0, 0, 3, 198, 0, 0, 3, 223, 0, 0, 4, 4, 0, 0, 4, 53, 0, 0, 4, 90, 0, 0, 4, 115, 0, 0, 4, 164, 0, 0, 4, 201, 0, 0, 4, 226, 0, 0, 5, 19, 0, 0, 5, 56, 0, 0, 5, 81, 0, 0, 5, 118, 0, 0, 5, 143, 0, 0, 5, 192, 0, 0, 5, 229, 0, 0, 6, 22, 0, 0, 6, 59, 0, 0, 6, 96, 0, 0, 6, 133, 0, 0, 6, 170, 0, 0, 6, 207, 0, 0, 7, 0, 0, 0, 7, 37, 0, 0, 7, 50, 0, 0, 7, 134, 0, 0, 7, 147]
abbrev dktL_law_2 : List UInt8 := dkwL_law_2 ++ dktL_law_3
def dkwL_law_1 : List UInt8 := [21, 4, 42, 190, 16, 6, 100, 163, 7, 176, 42, 21, 4, 46, 16, 63, 126]
abbrev dktL_law_1 : List UInt8 := dkwL_law_1 ++ dktL_law_2
def dkwL_law_0 : List UInt8 := [187, 0, 8, 89, 183, 0, 15, 76, 187, 0, 16, 89, 183, 0, 18, 77, 4, 188, 11, 78, 3, 54, 4]
abbrev dktL_law_0 : List UInt8 := dkwL_law_0 ++ dktL_law_1
theorem dksL_law_0 : cL_law.data.toList.drop 0 = dktL_law_0 := by decide +kernel
theorem dksL_law_1 : cL_law.data.toList.drop 23 = dktL_law_1 := dk_seg dksL_law_0 23 rfl rfl
theorem dksL_law_2 : cL_law.data.toList.drop 40 = dktL_law_2 := dk_seg dksL_law_1 17 rfl rfl
theorem dksL_law_3 : cL_law.data.toList.drop 252 = dktL_law_3 := dk_seg dksL_law_2 212 rfl rfl
theorem dksL_law_4 : cL_law.data.toList.drop 276 = dktL_law_4 := dk_seg dksL_law_3 24 rfl rfl
theorem dksL_law_5 : cL_law.data.toList.drop 300 = dktL_law_5 := dk_seg dksL_law_4 24 rfl rfl
theorem dksL_law_6 : cL_law.data.toList.drop 324 = dktL_law_6 := dk_seg dksL_law_5 24 rfl rfl
theorem dksL_law_7 : cL_law.data.toList.drop 348 = dktL_law_7 := dk_seg dksL_law_6 24 rfl rfl
theorem dksL_law_8 : cL_law.data.toList.drop 371 = dktL_law_8 := dk_seg dksL_law_7 23 rfl rfl
theorem dksL_law_9 : cL_law.data.toList.drop 393 = dktL_law_9 := dk_seg dksL_law_8 22 rfl rfl
theorem dksL_law_10 : cL_law.data.toList.drop 417 = dktL_law_10 := dk_seg dksL_law_9 24 rfl rfl
theorem dksL_law_11 : cL_law.data.toList.drop 440 = dktL_law_11 := dk_seg dksL_law_10 23 rfl rfl
theorem dksL_law_12 : cL_law.data.toList.drop 464 = dktL_law_12 := dk_seg dksL_law_11 24 rfl rfl
theorem dksL_law_13 : cL_law.data.toList.drop 488 = dktL_law_13 := dk_seg dksL_law_12 24 rfl rfl
theorem dksL_law_14 : cL_law.data.toList.drop 512 = dktL_law_14 := dk_seg dksL_law_13 24 rfl rfl
theorem dksL_law_15 : cL_law.data.toList.drop 536 = dktL_law_15 := dk_seg dksL_law_14 24 rfl rfl
theorem dksL_law_16 : cL_law.data.toList.drop 560 = dktL_law_16 := dk_seg dksL_law_15 24 rfl rfl
theorem dksL_law_17 : cL_law.data.toList.drop 584 = dktL_law_17 := dk_seg dksL_law_16 24 rfl rfl
theorem dksL_law_18 : cL_law.data.toList.drop 608 = dktL_law_18 := dk_seg dksL_law_17 24 rfl rfl
theorem dksL_law_19 : cL_law.data.toList.drop 630 = dktL_law_19 := dk_seg dksL_law_18 22 rfl rfl
theorem dksL_law_20 : cL_law.data.toList.drop 654 = dktL_law_20 := dk_seg dksL_law_19 24 rfl rfl
theorem dksL_law_21 : cL_law.data.toList.drop 678 = dktL_law_21 := dk_seg dksL_law_20 24 rfl rfl
theorem dksL_law_22 : cL_law.data.toList.drop 702 = dktL_law_22 := dk_seg dksL_law_21 24 rfl rfl
theorem dksL_law_23 : cL_law.data.toList.drop 726 = dktL_law_23 := dk_seg dksL_law_22 24 rfl rfl
theorem dksL_law_24 : cL_law.data.toList.drop 750 = dktL_law_24 := dk_seg dksL_law_23 24 rfl rfl
theorem dksL_law_25 : cL_law.data.toList.drop 774 = dktL_law_25 := dk_seg dksL_law_24 24 rfl rfl
theorem dksL_law_26 : cL_law.data.toList.drop 797 = dktL_law_26 := dk_seg dksL_law_25 23 rfl rfl
theorem dksL_law_27 : cL_law.data.toList.drop 821 = dktL_law_27 := dk_seg dksL_law_26 24 rfl rfl
theorem dksL_law_28 : cL_law.data.toList.drop 844 = dktL_law_28 := dk_seg dksL_law_27 23 rfl rfl
theorem dksL_law_29 : cL_law.data.toList.drop 868 = dktL_law_29 := dk_seg dksL_law_28 24 rfl rfl
theorem dksL_law_30 : cL_law.data.toList.drop 892 = dktL_law_30 := dk_seg dksL_law_29 24 rfl rfl
theorem dksL_law_31 : cL_law.data.toList.drop 914 = dktL_law_31 := dk_seg dksL_law_30 22 rfl rfl
theorem dksL_law_32 : cL_law.data.toList.drop 936 = dktL_law_32 := dk_seg dksL_law_31 22 rfl rfl
theorem dksL_law_33 : cL_law.data.toList.drop 960 = dktL_law_33 := dk_seg dksL_law_32 24 rfl rfl
theorem dksL_law_34 : cL_law.data.toList.drop 983 = dktL_law_34 := dk_seg dksL_law_33 23 rfl rfl
theorem dksL_law_35 : cL_law.data.toList.drop 1007 = dktL_law_35 := dk_seg dksL_law_34 24 rfl rfl
theorem dksL_law_36 : cL_law.data.toList.drop 1031 = dktL_law_36 := dk_seg dksL_law_35 24 rfl rfl
theorem dksL_law_37 : cL_law.data.toList.drop 1055 = dktL_law_37 := dk_seg dksL_law_36 24 rfl rfl
theorem dksL_law_38 : cL_law.data.toList.drop 1079 = dktL_law_38 := dk_seg dksL_law_37 24 rfl rfl
theorem dksL_law_39 : cL_law.data.toList.drop 1103 = dktL_law_39 := dk_seg dksL_law_38 24 rfl rfl
theorem dksL_law_40 : cL_law.data.toList.drop 1127 = dktL_law_40 := dk_seg dksL_law_39 24 rfl rfl
theorem dksL_law_41 : cL_law.data.toList.drop 1149 = dktL_law_41 := dk_seg dksL_law_40 22 rfl rfl
theorem dksL_law_42 : cL_law.data.toList.drop 1171 = dktL_law_42 := dk_seg dksL_law_41 22 rfl rfl
theorem dksL_law_43 : cL_law.data.toList.drop 1195 = dktL_law_43 := dk_seg dksL_law_42 24 rfl rfl
theorem dksL_law_44 : cL_law.data.toList.drop 1219 = dktL_law_44 := dk_seg dksL_law_43 24 rfl rfl
theorem dksL_law_45 : cL_law.data.toList.drop 1241 = dktL_law_45 := dk_seg dksL_law_44 22 rfl rfl
theorem dksL_law_46 : cL_law.data.toList.drop 1265 = dktL_law_46 := dk_seg dksL_law_45 24 rfl rfl
theorem dksL_law_47 : cL_law.data.toList.drop 1289 = dktL_law_47 := dk_seg dksL_law_46 24 rfl rfl
theorem dksL_law_48 : cL_law.data.toList.drop 1313 = dktL_law_48 := dk_seg dksL_law_47 24 rfl rfl
theorem dksL_law_49 : cL_law.data.toList.drop 1337 = dktL_law_49 := dk_seg dksL_law_48 24 rfl rfl
theorem dksL_law_50 : cL_law.data.toList.drop 1361 = dktL_law_50 := dk_seg dksL_law_49 24 rfl rfl
theorem dksL_law_51 : cL_law.data.toList.drop 1383 = dktL_law_51 := dk_seg dksL_law_50 22 rfl rfl
theorem dksL_law_52 : cL_law.data.toList.drop 1407 = dktL_law_52 := dk_seg dksL_law_51 24 rfl rfl
theorem dksL_law_53 : cL_law.data.toList.drop 1430 = dktL_law_53 := dk_seg dksL_law_52 23 rfl rfl
theorem dksL_law_54 : cL_law.data.toList.drop 1454 = dktL_law_54 := dk_seg dksL_law_53 24 rfl rfl
theorem dksL_law_55 : cL_law.data.toList.drop 1477 = dktL_law_55 := dk_seg dksL_law_54 23 rfl rfl
theorem dksL_law_56 : cL_law.data.toList.drop 1501 = dktL_law_56 := dk_seg dksL_law_55 24 rfl rfl
theorem dksL_law_57 : cL_law.data.toList.drop 1525 = dktL_law_57 := dk_seg dksL_law_56 24 rfl rfl
theorem dksL_law_58 : cL_law.data.toList.drop 1549 = dktL_law_58 := dk_seg dksL_law_57 24 rfl rfl
theorem dksL_law_59 : cL_law.data.toList.drop 1573 = dktL_law_59 := dk_seg dksL_law_58 24 rfl rfl
theorem dksL_law_60 : cL_law.data.toList.drop 1597 = dktL_law_60 := dk_seg dksL_law_59 24 rfl rfl
theorem dksL_law_61 : cL_law.data.toList.drop 1621 = dktL_law_61 := dk_seg dksL_law_60 24 rfl rfl
theorem dksL_law_62 : cL_law.data.toList.drop 1645 = dktL_law_62 := dk_seg dksL_law_61 24 rfl rfl
theorem dksL_law_63 : cL_law.data.toList.drop 1667 = dktL_law_63 := dk_seg dksL_law_62 22 rfl rfl
theorem dksL_law_64 : cL_law.data.toList.drop 1690 = dktL_law_64 := dk_seg dksL_law_63 23 rfl rfl
theorem dksL_law_65 : cL_law.data.toList.drop 1714 = dktL_law_65 := dk_seg dksL_law_64 24 rfl rfl
theorem dksL_law_66 : cL_law.data.toList.drop 1738 = dktL_law_66 := dk_seg dksL_law_65 24 rfl rfl
theorem dksL_law_67 : cL_law.data.toList.drop 1762 = dktL_law_67 := dk_seg dksL_law_66 24 rfl rfl
theorem dksL_law_68 : cL_law.data.toList.drop 1785 = dktL_law_68 := dk_seg dksL_law_67 23 rfl rfl
theorem dksL_law_69 : cL_law.data.toList.drop 1809 = dktL_law_69 := dk_seg dksL_law_68 24 rfl rfl
theorem dksL_law_70 : cL_law.data.toList.drop 1833 = dktL_law_70 := dk_seg dksL_law_69 24 rfl rfl
theorem dksL_law_71 : cL_law.data.toList.drop 1856 = dktL_law_71 := dk_seg dksL_law_70 23 rfl rfl
theorem dksL_law_72 : cL_law.data.toList.drop 1880 = dktL_law_72 := dk_seg dksL_law_71 24 rfl rfl
theorem dksL_law_73 : cL_law.data.toList.drop 1904 = dktL_law_73 := dk_seg dksL_law_72 24 rfl rfl
theorem dksL_law_74 : cL_law.data.toList.drop 1926 = dktL_law_74 := dk_seg dksL_law_73 22 rfl rfl
theorem dksL_law_75 : cL_law.data.toList.drop 1948 = dktL_law_75 := dk_seg dksL_law_74 22 rfl rfl
theorem dksL_law_76 : cL_law.data.toList.drop 1971 = dktL_law_76 := dk_seg dksL_law_75 23 rfl rfl
theorem dksL_law_77 : cL_law.data.toList.drop 1995 = dktL_law_77 := dk_seg dksL_law_76 24 rfl rfl
theorem dL_law_0 : decode cL_law 0 = .ok (.new 8, 3) := dk_187 0 8 (dk_at dksL_law_0 0 rfl rfl)
theorem dL_law_3 : decode cL_law 3 = .ok (.dup, 1) := dk_89 (dk_at dksL_law_0 3 rfl rfl)
theorem dL_law_4 : decode cL_law 4 = .ok (.invokespecial 15, 3) := dk_183 0 15 (dk_at dksL_law_0 4 rfl rfl)
theorem dL_law_7 : decode cL_law 7 = .ok (.astore_n 1, 1) := dk_76 (dk_at dksL_law_0 7 rfl rfl)
theorem dL_law_8 : decode cL_law 8 = .ok (.new 16, 3) := dk_187 0 16 (dk_at dksL_law_0 8 rfl rfl)
theorem dL_law_11 : decode cL_law 11 = .ok (.dup, 1) := dk_89 (dk_at dksL_law_0 11 rfl rfl)
theorem dL_law_12 : decode cL_law 12 = .ok (.invokespecial 18, 3) := dk_183 0 18 (dk_at dksL_law_0 12 rfl rfl)
theorem dL_law_15 : decode cL_law 15 = .ok (.astore_n 2, 1) := dk_77 (dk_at dksL_law_0 15 rfl rfl)
theorem dL_law_16 : decode cL_law 16 = .ok (.iconst 1, 1) := dk_4 (dk_at dksL_law_0 16 rfl rfl)
theorem dL_law_17 : decode cL_law 17 = .ok (.newarray .long, 2) := dk_188_11 (dk_at dksL_law_0 17 rfl rfl)
theorem dL_law_19 : decode cL_law 19 = .ok (.astore_n 3, 1) := dk_78 (dk_at dksL_law_0 19 rfl rfl)
theorem dL_law_20 : decode cL_law 20 = .ok (.iconst 0, 1) := dk_3 (dk_at dksL_law_0 20 rfl rfl)
theorem dL_law_21 : decode cL_law 21 = .ok (.istore 4, 2) := dk_54 4 (dk_at dksL_law_0 21 rfl rfl)
theorem dL_law_23 : decode cL_law 23 = .ok (.iload 4, 2) := dk_21 4 (dk_at dksL_law_1 0 rfl rfl)
theorem dL_law_25 : decode cL_law 25 = .ok (.aload_n 0, 1) := dk_42 (dk_at dksL_law_1 2 rfl rfl)
theorem dL_law_26 : decode cL_law 26 = .ok (.arraylength, 1) := dk_190 (dk_at dksL_law_1 3 rfl rfl)
theorem dL_law_27 : decode cL_law 27 = .ok (.bipush 6, 2) := dk_16 6 (dk_at dksL_law_1 4 rfl rfl)
theorem dL_law_29 : decode cL_law 29 = .ok (.isub, 1) := dk_100 (dk_at dksL_law_1 6 rfl rfl)
theorem dL_law_30 : decode cL_law 30 = .ok (.if_icmp .gt 1968, 3) := dk_163 7 176 (dk_at dksL_law_1 7 rfl rfl)
theorem dL_law_33 : decode cL_law 33 = .ok (.aload_n 0, 1) := dk_42 (dk_at dksL_law_1 10 rfl rfl)
theorem dL_law_34 : decode cL_law 34 = .ok (.iload 4, 2) := dk_21 4 (dk_at dksL_law_1 11 rfl rfl)
theorem dL_law_36 : decode cL_law 36 = .ok (.iaload, 1) := dk_46 (dk_at dksL_law_1 13 rfl rfl)
theorem dL_law_37 : decode cL_law 37 = .ok (.bipush 63, 2) := dk_16 63 (dk_at dksL_law_1 14 rfl rfl)
theorem dL_law_39 : decode cL_law 39 = .ok (.iand, 1) := dk_126 (dk_at dksL_law_1 16 rfl rfl)
theorem dL_law_40 : decode cL_law 40 = .ok (.tableswitch 1952 0 48 #[212, 285, 310, 323, 336, 361, 398, 435, 472, 521, 558, 583, 608, 657, 706, 755, 792, 817, 854, 879, 904, 941, 966, 991, 1028, 1077, 1114, 1139, 1188, 1225, 1250, 1299, 1336, 1361, 1398, 1423, 1472, 1509, 1558, 1595, 1632, 1669, 1706, 1743, 1792, 1829, 1842, 1926, 1939], 212) := by decide +kernel
theorem dL_law_252 : decode cL_law 252 = .ok (.aload_n 1, 1) := dk_43 (dk_at dksL_law_3 0 rfl rfl)
theorem dL_law_253 : decode cL_law 253 = .ok (.aload_n 0, 1) := dk_42 (dk_at dksL_law_3 1 rfl rfl)
theorem dL_law_254 : decode cL_law 254 = .ok (.iload 4, 2) := dk_21 4 (dk_at dksL_law_3 2 rfl rfl)
theorem dL_law_256 : decode cL_law 256 = .ok (.iconst 1, 1) := dk_4 (dk_at dksL_law_3 4 rfl rfl)
theorem dL_law_257 : decode cL_law 257 = .ok (.iadd, 1) := dk_96 (dk_at dksL_law_3 5 rfl rfl)
theorem dL_law_258 : decode cL_law 258 = .ok (.iaload, 1) := dk_46 (dk_at dksL_law_3 6 rfl rfl)
theorem dL_law_259 : decode cL_law 259 = .ok (.aload_n 0, 1) := dk_42 (dk_at dksL_law_3 7 rfl rfl)
theorem dL_law_260 : decode cL_law 260 = .ok (.iload 4, 2) := dk_21 4 (dk_at dksL_law_3 8 rfl rfl)
theorem dL_law_262 : decode cL_law 262 = .ok (.iconst 2, 1) := dk_5 (dk_at dksL_law_3 10 rfl rfl)
theorem dL_law_263 : decode cL_law 263 = .ok (.iadd, 1) := dk_96 (dk_at dksL_law_3 11 rfl rfl)
theorem dL_law_264 : decode cL_law 264 = .ok (.iaload, 1) := dk_46 (dk_at dksL_law_3 12 rfl rfl)
theorem dL_law_265 : decode cL_law 265 = .ok (.aload_n 0, 1) := dk_42 (dk_at dksL_law_3 13 rfl rfl)
theorem dL_law_266 : decode cL_law 266 = .ok (.iload 4, 2) := dk_21 4 (dk_at dksL_law_3 14 rfl rfl)
theorem dL_law_268 : decode cL_law 268 = .ok (.iconst 3, 1) := dk_6 (dk_at dksL_law_3 16 rfl rfl)
theorem dL_law_269 : decode cL_law 269 = .ok (.iadd, 1) := dk_96 (dk_at dksL_law_3 17 rfl rfl)
theorem dL_law_270 : decode cL_law 270 = .ok (.iaload, 1) := dk_46 (dk_at dksL_law_3 18 rfl rfl)
theorem dL_law_271 : decode cL_law 271 = .ok (.aload_n 0, 1) := dk_42 (dk_at dksL_law_3 19 rfl rfl)
theorem dL_law_272 : decode cL_law 272 = .ok (.iload 4, 2) := dk_21 4 (dk_at dksL_law_3 20 rfl rfl)
theorem dL_law_274 : decode cL_law 274 = .ok (.iconst 4, 1) := dk_7 (dk_at dksL_law_3 22 rfl rfl)
theorem dL_law_275 : decode cL_law 275 = .ok (.iadd, 1) := dk_96 (dk_at dksL_law_3 23 rfl rfl)
theorem dL_law_276 : decode cL_law 276 = .ok (.iaload, 1) := dk_46 (dk_at dksL_law_4 0 rfl rfl)
theorem dL_law_277 : decode cL_law 277 = .ok (.aload_n 0, 1) := dk_42 (dk_at dksL_law_4 1 rfl rfl)
theorem dL_law_278 : decode cL_law 278 = .ok (.iload 4, 2) := dk_21 4 (dk_at dksL_law_4 2 rfl rfl)
theorem dL_law_280 : decode cL_law 280 = .ok (.iconst 5, 1) := dk_8 (dk_at dksL_law_4 4 rfl rfl)
theorem dL_law_281 : decode cL_law 281 = .ok (.iadd, 1) := dk_96 (dk_at dksL_law_4 5 rfl rfl)
theorem dL_law_282 : decode cL_law 282 = .ok (.iaload, 1) := dk_46 (dk_at dksL_law_4 6 rfl rfl)
theorem dL_law_283 : decode cL_law 283 = .ok (.invokevirtual 19, 3) := dk_182 0 19 (dk_at dksL_law_4 7 rfl rfl)
theorem dL_law_286 : decode cL_law 286 = .ok (.aload_n 2, 1) := dk_44 (dk_at dksL_law_4 10 rfl rfl)
theorem dL_law_287 : decode cL_law 287 = .ok (.aload_n 0, 1) := dk_42 (dk_at dksL_law_4 11 rfl rfl)
theorem dL_law_288 : decode cL_law 288 = .ok (.iload 4, 2) := dk_21 4 (dk_at dksL_law_4 12 rfl rfl)
theorem dL_law_290 : decode cL_law 290 = .ok (.iconst 1, 1) := dk_4 (dk_at dksL_law_4 14 rfl rfl)
theorem dL_law_291 : decode cL_law 291 = .ok (.iadd, 1) := dk_96 (dk_at dksL_law_4 15 rfl rfl)
theorem dL_law_292 : decode cL_law 292 = .ok (.iaload, 1) := dk_46 (dk_at dksL_law_4 16 rfl rfl)
theorem dL_law_293 : decode cL_law 293 = .ok (.aload_n 0, 1) := dk_42 (dk_at dksL_law_4 17 rfl rfl)
theorem dL_law_294 : decode cL_law 294 = .ok (.iload 4, 2) := dk_21 4 (dk_at dksL_law_4 18 rfl rfl)
theorem dL_law_296 : decode cL_law 296 = .ok (.iconst 2, 1) := dk_5 (dk_at dksL_law_4 20 rfl rfl)
theorem dL_law_297 : decode cL_law 297 = .ok (.iadd, 1) := dk_96 (dk_at dksL_law_4 21 rfl rfl)
theorem dL_law_298 : decode cL_law 298 = .ok (.iaload, 1) := dk_46 (dk_at dksL_law_4 22 rfl rfl)
theorem dL_law_299 : decode cL_law 299 = .ok (.aload_n 0, 1) := dk_42 (dk_at dksL_law_4 23 rfl rfl)
theorem dL_law_300 : decode cL_law 300 = .ok (.iload 4, 2) := dk_21 4 (dk_at dksL_law_5 0 rfl rfl)
theorem dL_law_302 : decode cL_law 302 = .ok (.iconst 3, 1) := dk_6 (dk_at dksL_law_5 2 rfl rfl)
theorem dL_law_303 : decode cL_law 303 = .ok (.iadd, 1) := dk_96 (dk_at dksL_law_5 3 rfl rfl)
theorem dL_law_304 : decode cL_law 304 = .ok (.iaload, 1) := dk_46 (dk_at dksL_law_5 4 rfl rfl)
theorem dL_law_305 : decode cL_law 305 = .ok (.aload_n 0, 1) := dk_42 (dk_at dksL_law_5 5 rfl rfl)
theorem dL_law_306 : decode cL_law 306 = .ok (.iload 4, 2) := dk_21 4 (dk_at dksL_law_5 6 rfl rfl)
theorem dL_law_308 : decode cL_law 308 = .ok (.iconst 4, 1) := dk_7 (dk_at dksL_law_5 8 rfl rfl)
theorem dL_law_309 : decode cL_law 309 = .ok (.iadd, 1) := dk_96 (dk_at dksL_law_5 9 rfl rfl)
theorem dL_law_310 : decode cL_law 310 = .ok (.iaload, 1) := dk_46 (dk_at dksL_law_5 10 rfl rfl)
theorem dL_law_311 : decode cL_law 311 = .ok (.aload_n 0, 1) := dk_42 (dk_at dksL_law_5 11 rfl rfl)
theorem dL_law_312 : decode cL_law 312 = .ok (.iload 4, 2) := dk_21 4 (dk_at dksL_law_5 12 rfl rfl)
theorem dL_law_314 : decode cL_law 314 = .ok (.iconst 5, 1) := dk_8 (dk_at dksL_law_5 14 rfl rfl)
theorem dL_law_315 : decode cL_law 315 = .ok (.iadd, 1) := dk_96 (dk_at dksL_law_5 15 rfl rfl)
theorem dL_law_316 : decode cL_law 316 = .ok (.iaload, 1) := dk_46 (dk_at dksL_law_5 16 rfl rfl)
theorem dL_law_317 : decode cL_law 317 = .ok (.invokevirtual 23, 3) := dk_182 0 23 (dk_at dksL_law_5 17 rfl rfl)
theorem dL_law_320 : decode cL_law 320 = .ok (.if_icmp .eq 1672, 3) := dk_159 6 136 (dk_at dksL_law_5 20 rfl rfl)
theorem dL_law_323 : decode cL_law 323 = .ok (.iconst 0, 1) := dk_3 (dk_at dksL_law_5 23 rfl rfl)
theorem dL_law_324 : decode cL_law 324 = .ok (.ireturn, 1) := dk_172 (dk_at dksL_law_6 0 rfl rfl)
theorem dL_law_325 : decode cL_law 325 = .ok (.aload_n 1, 1) := dk_43 (dk_at dksL_law_6 1 rfl rfl)
theorem dL_law_326 : decode cL_law 326 = .ok (.aload_n 0, 1) := dk_42 (dk_at dksL_law_6 2 rfl rfl)
theorem dL_law_327 : decode cL_law 327 = .ok (.iload 4, 2) := dk_21 4 (dk_at dksL_law_6 3 rfl rfl)
theorem dL_law_329 : decode cL_law 329 = .ok (.iconst 1, 1) := dk_4 (dk_at dksL_law_6 5 rfl rfl)
theorem dL_law_330 : decode cL_law 330 = .ok (.iadd, 1) := dk_96 (dk_at dksL_law_6 6 rfl rfl)
theorem dL_law_331 : decode cL_law 331 = .ok (.iaload, 1) := dk_46 (dk_at dksL_law_6 7 rfl rfl)
theorem dL_law_332 : decode cL_law 332 = .ok (.invokevirtual 24, 3) := dk_182 0 24 (dk_at dksL_law_6 8 rfl rfl)
theorem dL_law_335 : decode cL_law 335 = .ok (.aload_n 2, 1) := dk_44 (dk_at dksL_law_6 11 rfl rfl)
theorem dL_law_336 : decode cL_law 336 = .ok (.aload_n 0, 1) := dk_42 (dk_at dksL_law_6 12 rfl rfl)
theorem dL_law_337 : decode cL_law 337 = .ok (.iload 4, 2) := dk_21 4 (dk_at dksL_law_6 13 rfl rfl)
theorem dL_law_339 : decode cL_law 339 = .ok (.iconst 1, 1) := dk_4 (dk_at dksL_law_6 15 rfl rfl)
theorem dL_law_340 : decode cL_law 340 = .ok (.iadd, 1) := dk_96 (dk_at dksL_law_6 16 rfl rfl)
theorem dL_law_341 : decode cL_law 341 = .ok (.iaload, 1) := dk_46 (dk_at dksL_law_6 17 rfl rfl)
theorem dL_law_342 : decode cL_law 342 = .ok (.invokevirtual 28, 3) := dk_182 0 28 (dk_at dksL_law_6 18 rfl rfl)
theorem dL_law_345 : decode cL_law 345 = .ok (.if_icmp .eq 1647, 3) := dk_159 6 111 (dk_at dksL_law_6 21 rfl rfl)
theorem dL_law_348 : decode cL_law 348 = .ok (.iconst 0, 1) := dk_3 (dk_at dksL_law_7 0 rfl rfl)
theorem dL_law_349 : decode cL_law 349 = .ok (.ireturn, 1) := dk_172 (dk_at dksL_law_7 1 rfl rfl)
theorem dL_law_350 : decode cL_law 350 = .ok (.aload_n 1, 1) := dk_43 (dk_at dksL_law_7 2 rfl rfl)
theorem dL_law_351 : decode cL_law 351 = .ok (.invokevirtual 29, 3) := dk_182 0 29 (dk_at dksL_law_7 3 rfl rfl)
theorem dL_law_354 : decode cL_law 354 = .ok (.aload_n 2, 1) := dk_44 (dk_at dksL_law_7 6 rfl rfl)
theorem dL_law_355 : decode cL_law 355 = .ok (.invokevirtual 33, 3) := dk_182 0 33 (dk_at dksL_law_7 7 rfl rfl)
theorem dL_law_358 : decode cL_law 358 = .ok (.if_icmp .eq 1634, 3) := dk_159 6 98 (dk_at dksL_law_7 10 rfl rfl)
theorem dL_law_361 : decode cL_law 361 = .ok (.iconst 0, 1) := dk_3 (dk_at dksL_law_7 13 rfl rfl)
theorem dL_law_362 : decode cL_law 362 = .ok (.ireturn, 1) := dk_172 (dk_at dksL_law_7 14 rfl rfl)
theorem dL_law_363 : decode cL_law 363 = .ok (.aload_n 1, 1) := dk_43 (dk_at dksL_law_7 15 rfl rfl)
theorem dL_law_364 : decode cL_law 364 = .ok (.invokevirtual 34, 3) := dk_182 0 34 (dk_at dksL_law_7 16 rfl rfl)
theorem dL_law_367 : decode cL_law 367 = .ok (.aload_n 2, 1) := dk_44 (dk_at dksL_law_7 19 rfl rfl)
theorem dL_law_368 : decode cL_law 368 = .ok (.invokevirtual 37, 3) := dk_182 0 37 (dk_at dksL_law_7 20 rfl rfl)
theorem dL_law_371 : decode cL_law 371 = .ok (.if_icmp .eq 1621, 3) := dk_159 6 85 (dk_at dksL_law_8 0 rfl rfl)
theorem dL_law_374 : decode cL_law 374 = .ok (.iconst 0, 1) := dk_3 (dk_at dksL_law_8 3 rfl rfl)
theorem dL_law_375 : decode cL_law 375 = .ok (.ireturn, 1) := dk_172 (dk_at dksL_law_8 4 rfl rfl)
theorem dL_law_376 : decode cL_law 376 = .ok (.aload_n 1, 1) := dk_43 (dk_at dksL_law_8 5 rfl rfl)
theorem dL_law_377 : decode cL_law 377 = .ok (.aload_n 0, 1) := dk_42 (dk_at dksL_law_8 6 rfl rfl)
theorem dL_law_378 : decode cL_law 378 = .ok (.iload 4, 2) := dk_21 4 (dk_at dksL_law_8 7 rfl rfl)
theorem dL_law_380 : decode cL_law 380 = .ok (.iconst 1, 1) := dk_4 (dk_at dksL_law_8 9 rfl rfl)
theorem dL_law_381 : decode cL_law 381 = .ok (.iadd, 1) := dk_96 (dk_at dksL_law_8 10 rfl rfl)
theorem dL_law_382 : decode cL_law 382 = .ok (.iaload, 1) := dk_46 (dk_at dksL_law_8 11 rfl rfl)
theorem dL_law_383 : decode cL_law 383 = .ok (.invokevirtual 38, 3) := dk_182 0 38 (dk_at dksL_law_8 12 rfl rfl)
theorem dL_law_386 : decode cL_law 386 = .ok (.aload_n 2, 1) := dk_44 (dk_at dksL_law_8 15 rfl rfl)
theorem dL_law_387 : decode cL_law 387 = .ok (.aload_n 0, 1) := dk_42 (dk_at dksL_law_8 16 rfl rfl)
theorem dL_law_388 : decode cL_law 388 = .ok (.iload 4, 2) := dk_21 4 (dk_at dksL_law_8 17 rfl rfl)
theorem dL_law_390 : decode cL_law 390 = .ok (.iconst 1, 1) := dk_4 (dk_at dksL_law_8 19 rfl rfl)
theorem dL_law_391 : decode cL_law 391 = .ok (.iadd, 1) := dk_96 (dk_at dksL_law_8 20 rfl rfl)
theorem dL_law_392 : decode cL_law 392 = .ok (.iaload, 1) := dk_46 (dk_at dksL_law_8 21 rfl rfl)
theorem dL_law_393 : decode cL_law 393 = .ok (.invokevirtual 41, 3) := dk_182 0 41 (dk_at dksL_law_9 0 rfl rfl)
theorem dL_law_396 : decode cL_law 396 = .ok (.if_icmp .eq 1596, 3) := dk_159 6 60 (dk_at dksL_law_9 3 rfl rfl)
theorem dL_law_399 : decode cL_law 399 = .ok (.iconst 0, 1) := dk_3 (dk_at dksL_law_9 6 rfl rfl)
theorem dL_law_400 : decode cL_law 400 = .ok (.ireturn, 1) := dk_172 (dk_at dksL_law_9 7 rfl rfl)
theorem dL_law_401 : decode cL_law 401 = .ok (.aload_n 1, 1) := dk_43 (dk_at dksL_law_9 8 rfl rfl)
theorem dL_law_402 : decode cL_law 402 = .ok (.aload_n 0, 1) := dk_42 (dk_at dksL_law_9 9 rfl rfl)
theorem dL_law_403 : decode cL_law 403 = .ok (.iload 4, 2) := dk_21 4 (dk_at dksL_law_9 10 rfl rfl)
theorem dL_law_405 : decode cL_law 405 = .ok (.iconst 1, 1) := dk_4 (dk_at dksL_law_9 12 rfl rfl)
theorem dL_law_406 : decode cL_law 406 = .ok (.iadd, 1) := dk_96 (dk_at dksL_law_9 13 rfl rfl)
theorem dL_law_407 : decode cL_law 407 = .ok (.iaload, 1) := dk_46 (dk_at dksL_law_9 14 rfl rfl)
theorem dL_law_408 : decode cL_law 408 = .ok (.aload_n 0, 1) := dk_42 (dk_at dksL_law_9 15 rfl rfl)
theorem dL_law_409 : decode cL_law 409 = .ok (.iload 4, 2) := dk_21 4 (dk_at dksL_law_9 16 rfl rfl)
theorem dL_law_411 : decode cL_law 411 = .ok (.iconst 2, 1) := dk_5 (dk_at dksL_law_9 18 rfl rfl)
theorem dL_law_412 : decode cL_law 412 = .ok (.iadd, 1) := dk_96 (dk_at dksL_law_9 19 rfl rfl)
theorem dL_law_413 : decode cL_law 413 = .ok (.iaload, 1) := dk_46 (dk_at dksL_law_9 20 rfl rfl)
theorem dL_law_414 : decode cL_law 414 = .ok (.invokevirtual 42, 3) := dk_182 0 42 (dk_at dksL_law_9 21 rfl rfl)
theorem dL_law_417 : decode cL_law 417 = .ok (.aload_n 2, 1) := dk_44 (dk_at dksL_law_10 0 rfl rfl)
theorem dL_law_418 : decode cL_law 418 = .ok (.aload_n 0, 1) := dk_42 (dk_at dksL_law_10 1 rfl rfl)
theorem dL_law_419 : decode cL_law 419 = .ok (.iload 4, 2) := dk_21 4 (dk_at dksL_law_10 2 rfl rfl)
theorem dL_law_421 : decode cL_law 421 = .ok (.iconst 1, 1) := dk_4 (dk_at dksL_law_10 4 rfl rfl)
theorem dL_law_422 : decode cL_law 422 = .ok (.iadd, 1) := dk_96 (dk_at dksL_law_10 5 rfl rfl)
theorem dL_law_423 : decode cL_law 423 = .ok (.iaload, 1) := dk_46 (dk_at dksL_law_10 6 rfl rfl)
theorem dL_law_424 : decode cL_law 424 = .ok (.aload_n 0, 1) := dk_42 (dk_at dksL_law_10 7 rfl rfl)
theorem dL_law_425 : decode cL_law 425 = .ok (.iload 4, 2) := dk_21 4 (dk_at dksL_law_10 8 rfl rfl)
theorem dL_law_427 : decode cL_law 427 = .ok (.iconst 2, 1) := dk_5 (dk_at dksL_law_10 10 rfl rfl)
theorem dL_law_428 : decode cL_law 428 = .ok (.iadd, 1) := dk_96 (dk_at dksL_law_10 11 rfl rfl)
theorem dL_law_429 : decode cL_law 429 = .ok (.iaload, 1) := dk_46 (dk_at dksL_law_10 12 rfl rfl)
theorem dL_law_430 : decode cL_law 430 = .ok (.invokevirtual 46, 3) := dk_182 0 46 (dk_at dksL_law_10 13 rfl rfl)
theorem dL_law_433 : decode cL_law 433 = .ok (.if_icmp .eq 1559, 3) := dk_159 6 23 (dk_at dksL_law_10 16 rfl rfl)
theorem dL_law_436 : decode cL_law 436 = .ok (.iconst 0, 1) := dk_3 (dk_at dksL_law_10 19 rfl rfl)
theorem dL_law_437 : decode cL_law 437 = .ok (.ireturn, 1) := dk_172 (dk_at dksL_law_10 20 rfl rfl)
theorem dL_law_438 : decode cL_law 438 = .ok (.aload_n 1, 1) := dk_43 (dk_at dksL_law_10 21 rfl rfl)
theorem dL_law_439 : decode cL_law 439 = .ok (.aload_n 0, 1) := dk_42 (dk_at dksL_law_10 22 rfl rfl)
theorem dL_law_440 : decode cL_law 440 = .ok (.iload 4, 2) := dk_21 4 (dk_at dksL_law_11 0 rfl rfl)
theorem dL_law_442 : decode cL_law 442 = .ok (.iconst 1, 1) := dk_4 (dk_at dksL_law_11 2 rfl rfl)
theorem dL_law_443 : decode cL_law 443 = .ok (.iadd, 1) := dk_96 (dk_at dksL_law_11 3 rfl rfl)
theorem dL_law_444 : decode cL_law 444 = .ok (.iaload, 1) := dk_46 (dk_at dksL_law_11 4 rfl rfl)
theorem dL_law_445 : decode cL_law 445 = .ok (.aload_n 0, 1) := dk_42 (dk_at dksL_law_11 5 rfl rfl)
theorem dL_law_446 : decode cL_law 446 = .ok (.iload 4, 2) := dk_21 4 (dk_at dksL_law_11 6 rfl rfl)
theorem dL_law_448 : decode cL_law 448 = .ok (.iconst 2, 1) := dk_5 (dk_at dksL_law_11 8 rfl rfl)
theorem dL_law_449 : decode cL_law 449 = .ok (.iadd, 1) := dk_96 (dk_at dksL_law_11 9 rfl rfl)
theorem dL_law_450 : decode cL_law 450 = .ok (.iaload, 1) := dk_46 (dk_at dksL_law_11 10 rfl rfl)
theorem dL_law_451 : decode cL_law 451 = .ok (.invokevirtual 47, 3) := dk_182 0 47 (dk_at dksL_law_11 11 rfl rfl)
theorem dL_law_454 : decode cL_law 454 = .ok (.aload_n 2, 1) := dk_44 (dk_at dksL_law_11 14 rfl rfl)
theorem dL_law_455 : decode cL_law 455 = .ok (.aload_n 0, 1) := dk_42 (dk_at dksL_law_11 15 rfl rfl)
theorem dL_law_456 : decode cL_law 456 = .ok (.iload 4, 2) := dk_21 4 (dk_at dksL_law_11 16 rfl rfl)
theorem dL_law_458 : decode cL_law 458 = .ok (.iconst 1, 1) := dk_4 (dk_at dksL_law_11 18 rfl rfl)
theorem dL_law_459 : decode cL_law 459 = .ok (.iadd, 1) := dk_96 (dk_at dksL_law_11 19 rfl rfl)
theorem dL_law_460 : decode cL_law 460 = .ok (.iaload, 1) := dk_46 (dk_at dksL_law_11 20 rfl rfl)
theorem dL_law_461 : decode cL_law 461 = .ok (.aload_n 0, 1) := dk_42 (dk_at dksL_law_11 21 rfl rfl)
theorem dL_law_462 : decode cL_law 462 = .ok (.iload 4, 2) := dk_21 4 (dk_at dksL_law_11 22 rfl rfl)
theorem dL_law_464 : decode cL_law 464 = .ok (.iconst 2, 1) := dk_5 (dk_at dksL_law_12 0 rfl rfl)
theorem dL_law_465 : decode cL_law 465 = .ok (.iadd, 1) := dk_96 (dk_at dksL_law_12 1 rfl rfl)
theorem dL_law_466 : decode cL_law 466 = .ok (.iaload, 1) := dk_46 (dk_at dksL_law_12 2 rfl rfl)
theorem dL_law_467 : decode cL_law 467 = .ok (.invokevirtual 50, 3) := dk_182 0 50 (dk_at dksL_law_12 3 rfl rfl)
theorem dL_law_470 : decode cL_law 470 = .ok (.if_icmp .eq 1522, 3) := dk_159 5 242 (dk_at dksL_law_12 6 rfl rfl)
theorem dL_law_473 : decode cL_law 473 = .ok (.iconst 0, 1) := dk_3 (dk_at dksL_law_12 9 rfl rfl)
theorem dL_law_474 : decode cL_law 474 = .ok (.ireturn, 1) := dk_172 (dk_at dksL_law_12 10 rfl rfl)
theorem dL_law_475 : decode cL_law 475 = .ok (.aload_n 1, 1) := dk_43 (dk_at dksL_law_12 11 rfl rfl)
theorem dL_law_476 : decode cL_law 476 = .ok (.aload_n 0, 1) := dk_42 (dk_at dksL_law_12 12 rfl rfl)
theorem dL_law_477 : decode cL_law 477 = .ok (.iload 4, 2) := dk_21 4 (dk_at dksL_law_12 13 rfl rfl)
theorem dL_law_479 : decode cL_law 479 = .ok (.iconst 1, 1) := dk_4 (dk_at dksL_law_12 15 rfl rfl)
theorem dL_law_480 : decode cL_law 480 = .ok (.iadd, 1) := dk_96 (dk_at dksL_law_12 16 rfl rfl)
theorem dL_law_481 : decode cL_law 481 = .ok (.iaload, 1) := dk_46 (dk_at dksL_law_12 17 rfl rfl)
theorem dL_law_482 : decode cL_law 482 = .ok (.aload_n 0, 1) := dk_42 (dk_at dksL_law_12 18 rfl rfl)
theorem dL_law_483 : decode cL_law 483 = .ok (.iload 4, 2) := dk_21 4 (dk_at dksL_law_12 19 rfl rfl)
theorem dL_law_485 : decode cL_law 485 = .ok (.iconst 2, 1) := dk_5 (dk_at dksL_law_12 21 rfl rfl)
theorem dL_law_486 : decode cL_law 486 = .ok (.iadd, 1) := dk_96 (dk_at dksL_law_12 22 rfl rfl)
theorem dL_law_487 : decode cL_law 487 = .ok (.iaload, 1) := dk_46 (dk_at dksL_law_12 23 rfl rfl)
theorem dL_law_488 : decode cL_law 488 = .ok (.invokevirtual 51, 3) := dk_182 0 51 (dk_at dksL_law_13 0 rfl rfl)
theorem dL_law_491 : decode cL_law 491 = .ok (.aload_n 2, 1) := dk_44 (dk_at dksL_law_13 3 rfl rfl)
theorem dL_law_492 : decode cL_law 492 = .ok (.aload_n 0, 1) := dk_42 (dk_at dksL_law_13 4 rfl rfl)
theorem dL_law_493 : decode cL_law 493 = .ok (.iload 4, 2) := dk_21 4 (dk_at dksL_law_13 5 rfl rfl)
theorem dL_law_495 : decode cL_law 495 = .ok (.iconst 1, 1) := dk_4 (dk_at dksL_law_13 7 rfl rfl)
theorem dL_law_496 : decode cL_law 496 = .ok (.iadd, 1) := dk_96 (dk_at dksL_law_13 8 rfl rfl)
theorem dL_law_497 : decode cL_law 497 = .ok (.iaload, 1) := dk_46 (dk_at dksL_law_13 9 rfl rfl)
theorem dL_law_498 : decode cL_law 498 = .ok (.aload_n 0, 1) := dk_42 (dk_at dksL_law_13 10 rfl rfl)
theorem dL_law_499 : decode cL_law 499 = .ok (.iload 4, 2) := dk_21 4 (dk_at dksL_law_13 11 rfl rfl)
theorem dL_law_501 : decode cL_law 501 = .ok (.iconst 2, 1) := dk_5 (dk_at dksL_law_13 13 rfl rfl)
theorem dL_law_502 : decode cL_law 502 = .ok (.iadd, 1) := dk_96 (dk_at dksL_law_13 14 rfl rfl)
theorem dL_law_503 : decode cL_law 503 = .ok (.iaload, 1) := dk_46 (dk_at dksL_law_13 15 rfl rfl)
theorem dL_law_504 : decode cL_law 504 = .ok (.invokevirtual 54, 3) := dk_182 0 54 (dk_at dksL_law_13 16 rfl rfl)
theorem dL_law_507 : decode cL_law 507 = .ok (.if_icmp .eq 1485, 3) := dk_159 5 205 (dk_at dksL_law_13 19 rfl rfl)
theorem dL_law_510 : decode cL_law 510 = .ok (.iconst 0, 1) := dk_3 (dk_at dksL_law_13 22 rfl rfl)
theorem dL_law_511 : decode cL_law 511 = .ok (.ireturn, 1) := dk_172 (dk_at dksL_law_13 23 rfl rfl)
theorem dL_law_512 : decode cL_law 512 = .ok (.aload_n 1, 1) := dk_43 (dk_at dksL_law_14 0 rfl rfl)
theorem dL_law_513 : decode cL_law 513 = .ok (.aload_n 0, 1) := dk_42 (dk_at dksL_law_14 1 rfl rfl)
theorem dL_law_514 : decode cL_law 514 = .ok (.iload 4, 2) := dk_21 4 (dk_at dksL_law_14 2 rfl rfl)
theorem dL_law_516 : decode cL_law 516 = .ok (.iconst 1, 1) := dk_4 (dk_at dksL_law_14 4 rfl rfl)
theorem dL_law_517 : decode cL_law 517 = .ok (.iadd, 1) := dk_96 (dk_at dksL_law_14 5 rfl rfl)
theorem dL_law_518 : decode cL_law 518 = .ok (.iaload, 1) := dk_46 (dk_at dksL_law_14 6 rfl rfl)
theorem dL_law_519 : decode cL_law 519 = .ok (.aload_n 0, 1) := dk_42 (dk_at dksL_law_14 7 rfl rfl)
theorem dL_law_520 : decode cL_law 520 = .ok (.iload 4, 2) := dk_21 4 (dk_at dksL_law_14 8 rfl rfl)
theorem dL_law_522 : decode cL_law 522 = .ok (.iconst 2, 1) := dk_5 (dk_at dksL_law_14 10 rfl rfl)
theorem dL_law_523 : decode cL_law 523 = .ok (.iadd, 1) := dk_96 (dk_at dksL_law_14 11 rfl rfl)
theorem dL_law_524 : decode cL_law 524 = .ok (.iaload, 1) := dk_46 (dk_at dksL_law_14 12 rfl rfl)
theorem dL_law_525 : decode cL_law 525 = .ok (.aload_n 0, 1) := dk_42 (dk_at dksL_law_14 13 rfl rfl)
theorem dL_law_526 : decode cL_law 526 = .ok (.iload 4, 2) := dk_21 4 (dk_at dksL_law_14 14 rfl rfl)
theorem dL_law_528 : decode cL_law 528 = .ok (.iconst 3, 1) := dk_6 (dk_at dksL_law_14 16 rfl rfl)
theorem dL_law_529 : decode cL_law 529 = .ok (.iadd, 1) := dk_96 (dk_at dksL_law_14 17 rfl rfl)
theorem dL_law_530 : decode cL_law 530 = .ok (.iaload, 1) := dk_46 (dk_at dksL_law_14 18 rfl rfl)
theorem dL_law_531 : decode cL_law 531 = .ok (.invokevirtual 55, 3) := dk_182 0 55 (dk_at dksL_law_14 19 rfl rfl)
theorem dL_law_534 : decode cL_law 534 = .ok (.aload_n 2, 1) := dk_44 (dk_at dksL_law_14 22 rfl rfl)
theorem dL_law_535 : decode cL_law 535 = .ok (.aload_n 0, 1) := dk_42 (dk_at dksL_law_14 23 rfl rfl)
theorem dL_law_536 : decode cL_law 536 = .ok (.iload 4, 2) := dk_21 4 (dk_at dksL_law_15 0 rfl rfl)
theorem dL_law_538 : decode cL_law 538 = .ok (.iconst 1, 1) := dk_4 (dk_at dksL_law_15 2 rfl rfl)
theorem dL_law_539 : decode cL_law 539 = .ok (.iadd, 1) := dk_96 (dk_at dksL_law_15 3 rfl rfl)
theorem dL_law_540 : decode cL_law 540 = .ok (.iaload, 1) := dk_46 (dk_at dksL_law_15 4 rfl rfl)
theorem dL_law_541 : decode cL_law 541 = .ok (.aload_n 0, 1) := dk_42 (dk_at dksL_law_15 5 rfl rfl)
theorem dL_law_542 : decode cL_law 542 = .ok (.iload 4, 2) := dk_21 4 (dk_at dksL_law_15 6 rfl rfl)
theorem dL_law_544 : decode cL_law 544 = .ok (.iconst 2, 1) := dk_5 (dk_at dksL_law_15 8 rfl rfl)
theorem dL_law_545 : decode cL_law 545 = .ok (.iadd, 1) := dk_96 (dk_at dksL_law_15 9 rfl rfl)
theorem dL_law_546 : decode cL_law 546 = .ok (.iaload, 1) := dk_46 (dk_at dksL_law_15 10 rfl rfl)
theorem dL_law_547 : decode cL_law 547 = .ok (.aload_n 0, 1) := dk_42 (dk_at dksL_law_15 11 rfl rfl)
theorem dL_law_548 : decode cL_law 548 = .ok (.iload 4, 2) := dk_21 4 (dk_at dksL_law_15 12 rfl rfl)
theorem dL_law_550 : decode cL_law 550 = .ok (.iconst 3, 1) := dk_6 (dk_at dksL_law_15 14 rfl rfl)
theorem dL_law_551 : decode cL_law 551 = .ok (.iadd, 1) := dk_96 (dk_at dksL_law_15 15 rfl rfl)
theorem dL_law_552 : decode cL_law 552 = .ok (.iaload, 1) := dk_46 (dk_at dksL_law_15 16 rfl rfl)
theorem dL_law_553 : decode cL_law 553 = .ok (.invokevirtual 59, 3) := dk_182 0 59 (dk_at dksL_law_15 17 rfl rfl)
theorem dL_law_556 : decode cL_law 556 = .ok (.if_icmp .eq 1436, 3) := dk_159 5 156 (dk_at dksL_law_15 20 rfl rfl)
theorem dL_law_559 : decode cL_law 559 = .ok (.iconst 0, 1) := dk_3 (dk_at dksL_law_15 23 rfl rfl)
theorem dL_law_560 : decode cL_law 560 = .ok (.ireturn, 1) := dk_172 (dk_at dksL_law_16 0 rfl rfl)
theorem dL_law_561 : decode cL_law 561 = .ok (.aload_n 1, 1) := dk_43 (dk_at dksL_law_16 1 rfl rfl)
theorem dL_law_562 : decode cL_law 562 = .ok (.aload_n 0, 1) := dk_42 (dk_at dksL_law_16 2 rfl rfl)
theorem dL_law_563 : decode cL_law 563 = .ok (.iload 4, 2) := dk_21 4 (dk_at dksL_law_16 3 rfl rfl)
theorem dL_law_565 : decode cL_law 565 = .ok (.iconst 1, 1) := dk_4 (dk_at dksL_law_16 5 rfl rfl)
theorem dL_law_566 : decode cL_law 566 = .ok (.iadd, 1) := dk_96 (dk_at dksL_law_16 6 rfl rfl)
theorem dL_law_567 : decode cL_law 567 = .ok (.iaload, 1) := dk_46 (dk_at dksL_law_16 7 rfl rfl)
theorem dL_law_568 : decode cL_law 568 = .ok (.aload_n 0, 1) := dk_42 (dk_at dksL_law_16 8 rfl rfl)
theorem dL_law_569 : decode cL_law 569 = .ok (.iload 4, 2) := dk_21 4 (dk_at dksL_law_16 9 rfl rfl)
theorem dL_law_571 : decode cL_law 571 = .ok (.iconst 2, 1) := dk_5 (dk_at dksL_law_16 11 rfl rfl)
theorem dL_law_572 : decode cL_law 572 = .ok (.iadd, 1) := dk_96 (dk_at dksL_law_16 12 rfl rfl)
theorem dL_law_573 : decode cL_law 573 = .ok (.iaload, 1) := dk_46 (dk_at dksL_law_16 13 rfl rfl)
theorem dL_law_574 : decode cL_law 574 = .ok (.invokevirtual 60, 3) := dk_182 0 60 (dk_at dksL_law_16 14 rfl rfl)
theorem dL_law_577 : decode cL_law 577 = .ok (.aload_n 2, 1) := dk_44 (dk_at dksL_law_16 17 rfl rfl)
theorem dL_law_578 : decode cL_law 578 = .ok (.aload_n 0, 1) := dk_42 (dk_at dksL_law_16 18 rfl rfl)
theorem dL_law_579 : decode cL_law 579 = .ok (.iload 4, 2) := dk_21 4 (dk_at dksL_law_16 19 rfl rfl)
theorem dL_law_581 : decode cL_law 581 = .ok (.iconst 1, 1) := dk_4 (dk_at dksL_law_16 21 rfl rfl)
theorem dL_law_582 : decode cL_law 582 = .ok (.iadd, 1) := dk_96 (dk_at dksL_law_16 22 rfl rfl)
theorem dL_law_583 : decode cL_law 583 = .ok (.iaload, 1) := dk_46 (dk_at dksL_law_16 23 rfl rfl)
theorem dL_law_584 : decode cL_law 584 = .ok (.aload_n 0, 1) := dk_42 (dk_at dksL_law_17 0 rfl rfl)
theorem dL_law_585 : decode cL_law 585 = .ok (.iload 4, 2) := dk_21 4 (dk_at dksL_law_17 1 rfl rfl)
theorem dL_law_587 : decode cL_law 587 = .ok (.iconst 2, 1) := dk_5 (dk_at dksL_law_17 3 rfl rfl)
theorem dL_law_588 : decode cL_law 588 = .ok (.iadd, 1) := dk_96 (dk_at dksL_law_17 4 rfl rfl)
theorem dL_law_589 : decode cL_law 589 = .ok (.iaload, 1) := dk_46 (dk_at dksL_law_17 5 rfl rfl)
theorem dL_law_590 : decode cL_law 590 = .ok (.invokevirtual 63, 3) := dk_182 0 63 (dk_at dksL_law_17 6 rfl rfl)
theorem dL_law_593 : decode cL_law 593 = .ok (.if_icmp .eq 1399, 3) := dk_159 5 119 (dk_at dksL_law_17 9 rfl rfl)
theorem dL_law_596 : decode cL_law 596 = .ok (.iconst 0, 1) := dk_3 (dk_at dksL_law_17 12 rfl rfl)
theorem dL_law_597 : decode cL_law 597 = .ok (.ireturn, 1) := dk_172 (dk_at dksL_law_17 13 rfl rfl)
theorem dL_law_598 : decode cL_law 598 = .ok (.aload_n 1, 1) := dk_43 (dk_at dksL_law_17 14 rfl rfl)
theorem dL_law_599 : decode cL_law 599 = .ok (.aload_n 0, 1) := dk_42 (dk_at dksL_law_17 15 rfl rfl)
theorem dL_law_600 : decode cL_law 600 = .ok (.iload 4, 2) := dk_21 4 (dk_at dksL_law_17 16 rfl rfl)
theorem dL_law_602 : decode cL_law 602 = .ok (.iconst 1, 1) := dk_4 (dk_at dksL_law_17 18 rfl rfl)
theorem dL_law_603 : decode cL_law 603 = .ok (.iadd, 1) := dk_96 (dk_at dksL_law_17 19 rfl rfl)
theorem dL_law_604 : decode cL_law 604 = .ok (.iaload, 1) := dk_46 (dk_at dksL_law_17 20 rfl rfl)
theorem dL_law_605 : decode cL_law 605 = .ok (.invokevirtual 64, 3) := dk_182 0 64 (dk_at dksL_law_17 21 rfl rfl)
theorem dL_law_608 : decode cL_law 608 = .ok (.aload_n 2, 1) := dk_44 (dk_at dksL_law_18 0 rfl rfl)
theorem dL_law_609 : decode cL_law 609 = .ok (.aload_n 0, 1) := dk_42 (dk_at dksL_law_18 1 rfl rfl)
theorem dL_law_610 : decode cL_law 610 = .ok (.iload 4, 2) := dk_21 4 (dk_at dksL_law_18 2 rfl rfl)
theorem dL_law_612 : decode cL_law 612 = .ok (.iconst 1, 1) := dk_4 (dk_at dksL_law_18 4 rfl rfl)
theorem dL_law_613 : decode cL_law 613 = .ok (.iadd, 1) := dk_96 (dk_at dksL_law_18 5 rfl rfl)
theorem dL_law_614 : decode cL_law 614 = .ok (.iaload, 1) := dk_46 (dk_at dksL_law_18 6 rfl rfl)
theorem dL_law_615 : decode cL_law 615 = .ok (.invokevirtual 67, 3) := dk_182 0 67 (dk_at dksL_law_18 7 rfl rfl)
theorem dL_law_618 : decode cL_law 618 = .ok (.if_icmp .eq 1374, 3) := dk_159 5 94 (dk_at dksL_law_18 10 rfl rfl)
theorem dL_law_621 : decode cL_law 621 = .ok (.iconst 0, 1) := dk_3 (dk_at dksL_law_18 13 rfl rfl)
theorem dL_law_622 : decode cL_law 622 = .ok (.ireturn, 1) := dk_172 (dk_at dksL_law_18 14 rfl rfl)
theorem dL_law_623 : decode cL_law 623 = .ok (.aload_n 1, 1) := dk_43 (dk_at dksL_law_18 15 rfl rfl)
theorem dL_law_624 : decode cL_law 624 = .ok (.aload_n 0, 1) := dk_42 (dk_at dksL_law_18 16 rfl rfl)
theorem dL_law_625 : decode cL_law 625 = .ok (.iload 4, 2) := dk_21 4 (dk_at dksL_law_18 17 rfl rfl)
theorem dL_law_627 : decode cL_law 627 = .ok (.iconst 1, 1) := dk_4 (dk_at dksL_law_18 19 rfl rfl)
theorem dL_law_628 : decode cL_law 628 = .ok (.iadd, 1) := dk_96 (dk_at dksL_law_18 20 rfl rfl)
theorem dL_law_629 : decode cL_law 629 = .ok (.iaload, 1) := dk_46 (dk_at dksL_law_18 21 rfl rfl)
theorem dL_law_630 : decode cL_law 630 = .ok (.invokevirtual 68, 3) := dk_182 0 68 (dk_at dksL_law_19 0 rfl rfl)
theorem dL_law_633 : decode cL_law 633 = .ok (.aload_n 2, 1) := dk_44 (dk_at dksL_law_19 3 rfl rfl)
theorem dL_law_634 : decode cL_law 634 = .ok (.aload_n 0, 1) := dk_42 (dk_at dksL_law_19 4 rfl rfl)
theorem dL_law_635 : decode cL_law 635 = .ok (.iload 4, 2) := dk_21 4 (dk_at dksL_law_19 5 rfl rfl)
theorem dL_law_637 : decode cL_law 637 = .ok (.iconst 1, 1) := dk_4 (dk_at dksL_law_19 7 rfl rfl)
theorem dL_law_638 : decode cL_law 638 = .ok (.iadd, 1) := dk_96 (dk_at dksL_law_19 8 rfl rfl)
theorem dL_law_639 : decode cL_law 639 = .ok (.iaload, 1) := dk_46 (dk_at dksL_law_19 9 rfl rfl)
theorem dL_law_640 : decode cL_law 640 = .ok (.invokevirtual 71, 3) := dk_182 0 71 (dk_at dksL_law_19 10 rfl rfl)
theorem dL_law_643 : decode cL_law 643 = .ok (.if_icmp .eq 1349, 3) := dk_159 5 69 (dk_at dksL_law_19 13 rfl rfl)
theorem dL_law_646 : decode cL_law 646 = .ok (.iconst 0, 1) := dk_3 (dk_at dksL_law_19 16 rfl rfl)
theorem dL_law_647 : decode cL_law 647 = .ok (.ireturn, 1) := dk_172 (dk_at dksL_law_19 17 rfl rfl)
theorem dL_law_648 : decode cL_law 648 = .ok (.aload_n 1, 1) := dk_43 (dk_at dksL_law_19 18 rfl rfl)
theorem dL_law_649 : decode cL_law 649 = .ok (.aload_n 0, 1) := dk_42 (dk_at dksL_law_19 19 rfl rfl)
theorem dL_law_650 : decode cL_law 650 = .ok (.iload 4, 2) := dk_21 4 (dk_at dksL_law_19 20 rfl rfl)
theorem dL_law_652 : decode cL_law 652 = .ok (.iconst 1, 1) := dk_4 (dk_at dksL_law_19 22 rfl rfl)
theorem dL_law_653 : decode cL_law 653 = .ok (.iadd, 1) := dk_96 (dk_at dksL_law_19 23 rfl rfl)
theorem dL_law_654 : decode cL_law 654 = .ok (.iaload, 1) := dk_46 (dk_at dksL_law_20 0 rfl rfl)
theorem dL_law_655 : decode cL_law 655 = .ok (.aload_n 0, 1) := dk_42 (dk_at dksL_law_20 1 rfl rfl)
theorem dL_law_656 : decode cL_law 656 = .ok (.iload 4, 2) := dk_21 4 (dk_at dksL_law_20 2 rfl rfl)
theorem dL_law_658 : decode cL_law 658 = .ok (.iconst 2, 1) := dk_5 (dk_at dksL_law_20 4 rfl rfl)
theorem dL_law_659 : decode cL_law 659 = .ok (.iadd, 1) := dk_96 (dk_at dksL_law_20 5 rfl rfl)
theorem dL_law_660 : decode cL_law 660 = .ok (.iaload, 1) := dk_46 (dk_at dksL_law_20 6 rfl rfl)
theorem dL_law_661 : decode cL_law 661 = .ok (.aload_n 0, 1) := dk_42 (dk_at dksL_law_20 7 rfl rfl)
theorem dL_law_662 : decode cL_law 662 = .ok (.iload 4, 2) := dk_21 4 (dk_at dksL_law_20 8 rfl rfl)
theorem dL_law_664 : decode cL_law 664 = .ok (.iconst 3, 1) := dk_6 (dk_at dksL_law_20 10 rfl rfl)
theorem dL_law_665 : decode cL_law 665 = .ok (.iadd, 1) := dk_96 (dk_at dksL_law_20 11 rfl rfl)
theorem dL_law_666 : decode cL_law 666 = .ok (.iaload, 1) := dk_46 (dk_at dksL_law_20 12 rfl rfl)
theorem dL_law_667 : decode cL_law 667 = .ok (.invokevirtual 72, 3) := dk_182 0 72 (dk_at dksL_law_20 13 rfl rfl)
theorem dL_law_670 : decode cL_law 670 = .ok (.aload_n 2, 1) := dk_44 (dk_at dksL_law_20 16 rfl rfl)
theorem dL_law_671 : decode cL_law 671 = .ok (.aload_n 0, 1) := dk_42 (dk_at dksL_law_20 17 rfl rfl)
theorem dL_law_672 : decode cL_law 672 = .ok (.iload 4, 2) := dk_21 4 (dk_at dksL_law_20 18 rfl rfl)
theorem dL_law_674 : decode cL_law 674 = .ok (.iconst 1, 1) := dk_4 (dk_at dksL_law_20 20 rfl rfl)
theorem dL_law_675 : decode cL_law 675 = .ok (.iadd, 1) := dk_96 (dk_at dksL_law_20 21 rfl rfl)
theorem dL_law_676 : decode cL_law 676 = .ok (.iaload, 1) := dk_46 (dk_at dksL_law_20 22 rfl rfl)
theorem dL_law_677 : decode cL_law 677 = .ok (.aload_n 0, 1) := dk_42 (dk_at dksL_law_20 23 rfl rfl)
theorem dL_law_678 : decode cL_law 678 = .ok (.iload 4, 2) := dk_21 4 (dk_at dksL_law_21 0 rfl rfl)
theorem dL_law_680 : decode cL_law 680 = .ok (.iconst 2, 1) := dk_5 (dk_at dksL_law_21 2 rfl rfl)
theorem dL_law_681 : decode cL_law 681 = .ok (.iadd, 1) := dk_96 (dk_at dksL_law_21 3 rfl rfl)
theorem dL_law_682 : decode cL_law 682 = .ok (.iaload, 1) := dk_46 (dk_at dksL_law_21 4 rfl rfl)
theorem dL_law_683 : decode cL_law 683 = .ok (.aload_n 0, 1) := dk_42 (dk_at dksL_law_21 5 rfl rfl)
theorem dL_law_684 : decode cL_law 684 = .ok (.iload 4, 2) := dk_21 4 (dk_at dksL_law_21 6 rfl rfl)
theorem dL_law_686 : decode cL_law 686 = .ok (.iconst 3, 1) := dk_6 (dk_at dksL_law_21 8 rfl rfl)
theorem dL_law_687 : decode cL_law 687 = .ok (.iadd, 1) := dk_96 (dk_at dksL_law_21 9 rfl rfl)
theorem dL_law_688 : decode cL_law 688 = .ok (.iaload, 1) := dk_46 (dk_at dksL_law_21 10 rfl rfl)
theorem dL_law_689 : decode cL_law 689 = .ok (.invokevirtual 75, 3) := dk_182 0 75 (dk_at dksL_law_21 11 rfl rfl)
theorem dL_law_692 : decode cL_law 692 = .ok (.if_icmp .eq 1300, 3) := dk_159 5 20 (dk_at dksL_law_21 14 rfl rfl)
theorem dL_law_695 : decode cL_law 695 = .ok (.iconst 0, 1) := dk_3 (dk_at dksL_law_21 17 rfl rfl)
theorem dL_law_696 : decode cL_law 696 = .ok (.ireturn, 1) := dk_172 (dk_at dksL_law_21 18 rfl rfl)
theorem dL_law_697 : decode cL_law 697 = .ok (.aload_n 1, 1) := dk_43 (dk_at dksL_law_21 19 rfl rfl)
theorem dL_law_698 : decode cL_law 698 = .ok (.aload_n 0, 1) := dk_42 (dk_at dksL_law_21 20 rfl rfl)
theorem dL_law_699 : decode cL_law 699 = .ok (.iload 4, 2) := dk_21 4 (dk_at dksL_law_21 21 rfl rfl)
theorem dL_law_701 : decode cL_law 701 = .ok (.iconst 1, 1) := dk_4 (dk_at dksL_law_21 23 rfl rfl)
theorem dL_law_702 : decode cL_law 702 = .ok (.iadd, 1) := dk_96 (dk_at dksL_law_22 0 rfl rfl)
theorem dL_law_703 : decode cL_law 703 = .ok (.iaload, 1) := dk_46 (dk_at dksL_law_22 1 rfl rfl)
theorem dL_law_704 : decode cL_law 704 = .ok (.aload_n 0, 1) := dk_42 (dk_at dksL_law_22 2 rfl rfl)
theorem dL_law_705 : decode cL_law 705 = .ok (.iload 4, 2) := dk_21 4 (dk_at dksL_law_22 3 rfl rfl)
theorem dL_law_707 : decode cL_law 707 = .ok (.iconst 2, 1) := dk_5 (dk_at dksL_law_22 5 rfl rfl)
theorem dL_law_708 : decode cL_law 708 = .ok (.iadd, 1) := dk_96 (dk_at dksL_law_22 6 rfl rfl)
theorem dL_law_709 : decode cL_law 709 = .ok (.iaload, 1) := dk_46 (dk_at dksL_law_22 7 rfl rfl)
theorem dL_law_710 : decode cL_law 710 = .ok (.aload_n 0, 1) := dk_42 (dk_at dksL_law_22 8 rfl rfl)
theorem dL_law_711 : decode cL_law 711 = .ok (.iload 4, 2) := dk_21 4 (dk_at dksL_law_22 9 rfl rfl)
theorem dL_law_713 : decode cL_law 713 = .ok (.iconst 3, 1) := dk_6 (dk_at dksL_law_22 11 rfl rfl)
theorem dL_law_714 : decode cL_law 714 = .ok (.iadd, 1) := dk_96 (dk_at dksL_law_22 12 rfl rfl)
theorem dL_law_715 : decode cL_law 715 = .ok (.iaload, 1) := dk_46 (dk_at dksL_law_22 13 rfl rfl)
theorem dL_law_716 : decode cL_law 716 = .ok (.invokevirtual 76, 3) := dk_182 0 76 (dk_at dksL_law_22 14 rfl rfl)
theorem dL_law_719 : decode cL_law 719 = .ok (.aload_n 2, 1) := dk_44 (dk_at dksL_law_22 17 rfl rfl)
theorem dL_law_720 : decode cL_law 720 = .ok (.aload_n 0, 1) := dk_42 (dk_at dksL_law_22 18 rfl rfl)
theorem dL_law_721 : decode cL_law 721 = .ok (.iload 4, 2) := dk_21 4 (dk_at dksL_law_22 19 rfl rfl)
theorem dL_law_723 : decode cL_law 723 = .ok (.iconst 1, 1) := dk_4 (dk_at dksL_law_22 21 rfl rfl)
theorem dL_law_724 : decode cL_law 724 = .ok (.iadd, 1) := dk_96 (dk_at dksL_law_22 22 rfl rfl)
theorem dL_law_725 : decode cL_law 725 = .ok (.iaload, 1) := dk_46 (dk_at dksL_law_22 23 rfl rfl)
theorem dL_law_726 : decode cL_law 726 = .ok (.aload_n 0, 1) := dk_42 (dk_at dksL_law_23 0 rfl rfl)
theorem dL_law_727 : decode cL_law 727 = .ok (.iload 4, 2) := dk_21 4 (dk_at dksL_law_23 1 rfl rfl)
theorem dL_law_729 : decode cL_law 729 = .ok (.iconst 2, 1) := dk_5 (dk_at dksL_law_23 3 rfl rfl)
theorem dL_law_730 : decode cL_law 730 = .ok (.iadd, 1) := dk_96 (dk_at dksL_law_23 4 rfl rfl)
theorem dL_law_731 : decode cL_law 731 = .ok (.iaload, 1) := dk_46 (dk_at dksL_law_23 5 rfl rfl)
theorem dL_law_732 : decode cL_law 732 = .ok (.aload_n 0, 1) := dk_42 (dk_at dksL_law_23 6 rfl rfl)
theorem dL_law_733 : decode cL_law 733 = .ok (.iload 4, 2) := dk_21 4 (dk_at dksL_law_23 7 rfl rfl)
theorem dL_law_735 : decode cL_law 735 = .ok (.iconst 3, 1) := dk_6 (dk_at dksL_law_23 9 rfl rfl)
theorem dL_law_736 : decode cL_law 736 = .ok (.iadd, 1) := dk_96 (dk_at dksL_law_23 10 rfl rfl)
theorem dL_law_737 : decode cL_law 737 = .ok (.iaload, 1) := dk_46 (dk_at dksL_law_23 11 rfl rfl)
theorem dL_law_738 : decode cL_law 738 = .ok (.invokevirtual 79, 3) := dk_182 0 79 (dk_at dksL_law_23 12 rfl rfl)
theorem dL_law_741 : decode cL_law 741 = .ok (.if_icmp .eq 1251, 3) := dk_159 4 227 (dk_at dksL_law_23 15 rfl rfl)
theorem dL_law_744 : decode cL_law 744 = .ok (.iconst 0, 1) := dk_3 (dk_at dksL_law_23 18 rfl rfl)
theorem dL_law_745 : decode cL_law 745 = .ok (.ireturn, 1) := dk_172 (dk_at dksL_law_23 19 rfl rfl)
theorem dL_law_746 : decode cL_law 746 = .ok (.aload_n 1, 1) := dk_43 (dk_at dksL_law_23 20 rfl rfl)
theorem dL_law_747 : decode cL_law 747 = .ok (.aload_n 0, 1) := dk_42 (dk_at dksL_law_23 21 rfl rfl)
theorem dL_law_748 : decode cL_law 748 = .ok (.iload 4, 2) := dk_21 4 (dk_at dksL_law_23 22 rfl rfl)
theorem dL_law_750 : decode cL_law 750 = .ok (.iconst 1, 1) := dk_4 (dk_at dksL_law_24 0 rfl rfl)
theorem dL_law_751 : decode cL_law 751 = .ok (.iadd, 1) := dk_96 (dk_at dksL_law_24 1 rfl rfl)
theorem dL_law_752 : decode cL_law 752 = .ok (.iaload, 1) := dk_46 (dk_at dksL_law_24 2 rfl rfl)
theorem dL_law_753 : decode cL_law 753 = .ok (.aload_n 0, 1) := dk_42 (dk_at dksL_law_24 3 rfl rfl)
theorem dL_law_754 : decode cL_law 754 = .ok (.iload 4, 2) := dk_21 4 (dk_at dksL_law_24 4 rfl rfl)
theorem dL_law_756 : decode cL_law 756 = .ok (.iconst 2, 1) := dk_5 (dk_at dksL_law_24 6 rfl rfl)
theorem dL_law_757 : decode cL_law 757 = .ok (.iadd, 1) := dk_96 (dk_at dksL_law_24 7 rfl rfl)
theorem dL_law_758 : decode cL_law 758 = .ok (.iaload, 1) := dk_46 (dk_at dksL_law_24 8 rfl rfl)
theorem dL_law_759 : decode cL_law 759 = .ok (.aload_n 0, 1) := dk_42 (dk_at dksL_law_24 9 rfl rfl)
theorem dL_law_760 : decode cL_law 760 = .ok (.iload 4, 2) := dk_21 4 (dk_at dksL_law_24 10 rfl rfl)
theorem dL_law_762 : decode cL_law 762 = .ok (.iconst 3, 1) := dk_6 (dk_at dksL_law_24 12 rfl rfl)
theorem dL_law_763 : decode cL_law 763 = .ok (.iadd, 1) := dk_96 (dk_at dksL_law_24 13 rfl rfl)
theorem dL_law_764 : decode cL_law 764 = .ok (.iaload, 1) := dk_46 (dk_at dksL_law_24 14 rfl rfl)
theorem dL_law_765 : decode cL_law 765 = .ok (.invokevirtual 80, 3) := dk_182 0 80 (dk_at dksL_law_24 15 rfl rfl)
theorem dL_law_768 : decode cL_law 768 = .ok (.aload_n 2, 1) := dk_44 (dk_at dksL_law_24 18 rfl rfl)
theorem dL_law_769 : decode cL_law 769 = .ok (.aload_n 0, 1) := dk_42 (dk_at dksL_law_24 19 rfl rfl)
theorem dL_law_770 : decode cL_law 770 = .ok (.iload 4, 2) := dk_21 4 (dk_at dksL_law_24 20 rfl rfl)
theorem dL_law_772 : decode cL_law 772 = .ok (.iconst 1, 1) := dk_4 (dk_at dksL_law_24 22 rfl rfl)
theorem dL_law_773 : decode cL_law 773 = .ok (.iadd, 1) := dk_96 (dk_at dksL_law_24 23 rfl rfl)
theorem dL_law_774 : decode cL_law 774 = .ok (.iaload, 1) := dk_46 (dk_at dksL_law_25 0 rfl rfl)
theorem dL_law_775 : decode cL_law 775 = .ok (.aload_n 0, 1) := dk_42 (dk_at dksL_law_25 1 rfl rfl)
theorem dL_law_776 : decode cL_law 776 = .ok (.iload 4, 2) := dk_21 4 (dk_at dksL_law_25 2 rfl rfl)
theorem dL_law_778 : decode cL_law 778 = .ok (.iconst 2, 1) := dk_5 (dk_at dksL_law_25 4 rfl rfl)
theorem dL_law_779 : decode cL_law 779 = .ok (.iadd, 1) := dk_96 (dk_at dksL_law_25 5 rfl rfl)
theorem dL_law_780 : decode cL_law 780 = .ok (.iaload, 1) := dk_46 (dk_at dksL_law_25 6 rfl rfl)
theorem dL_law_781 : decode cL_law 781 = .ok (.aload_n 0, 1) := dk_42 (dk_at dksL_law_25 7 rfl rfl)
theorem dL_law_782 : decode cL_law 782 = .ok (.iload 4, 2) := dk_21 4 (dk_at dksL_law_25 8 rfl rfl)
theorem dL_law_784 : decode cL_law 784 = .ok (.iconst 3, 1) := dk_6 (dk_at dksL_law_25 10 rfl rfl)
theorem dL_law_785 : decode cL_law 785 = .ok (.iadd, 1) := dk_96 (dk_at dksL_law_25 11 rfl rfl)
theorem dL_law_786 : decode cL_law 786 = .ok (.iaload, 1) := dk_46 (dk_at dksL_law_25 12 rfl rfl)
theorem dL_law_787 : decode cL_law 787 = .ok (.invokevirtual 83, 3) := dk_182 0 83 (dk_at dksL_law_25 13 rfl rfl)
theorem dL_law_790 : decode cL_law 790 = .ok (.if_icmp .eq 1202, 3) := dk_159 4 178 (dk_at dksL_law_25 16 rfl rfl)
theorem dL_law_793 : decode cL_law 793 = .ok (.iconst 0, 1) := dk_3 (dk_at dksL_law_25 19 rfl rfl)
theorem dL_law_794 : decode cL_law 794 = .ok (.ireturn, 1) := dk_172 (dk_at dksL_law_25 20 rfl rfl)
theorem dL_law_795 : decode cL_law 795 = .ok (.aload_n 1, 1) := dk_43 (dk_at dksL_law_25 21 rfl rfl)
theorem dL_law_796 : decode cL_law 796 = .ok (.aload_n 0, 1) := dk_42 (dk_at dksL_law_25 22 rfl rfl)
theorem dL_law_797 : decode cL_law 797 = .ok (.iload 4, 2) := dk_21 4 (dk_at dksL_law_26 0 rfl rfl)
theorem dL_law_799 : decode cL_law 799 = .ok (.iconst 1, 1) := dk_4 (dk_at dksL_law_26 2 rfl rfl)
theorem dL_law_800 : decode cL_law 800 = .ok (.iadd, 1) := dk_96 (dk_at dksL_law_26 3 rfl rfl)
theorem dL_law_801 : decode cL_law 801 = .ok (.iaload, 1) := dk_46 (dk_at dksL_law_26 4 rfl rfl)
theorem dL_law_802 : decode cL_law 802 = .ok (.aload_n 0, 1) := dk_42 (dk_at dksL_law_26 5 rfl rfl)
theorem dL_law_803 : decode cL_law 803 = .ok (.iload 4, 2) := dk_21 4 (dk_at dksL_law_26 6 rfl rfl)
theorem dL_law_805 : decode cL_law 805 = .ok (.iconst 2, 1) := dk_5 (dk_at dksL_law_26 8 rfl rfl)
theorem dL_law_806 : decode cL_law 806 = .ok (.iadd, 1) := dk_96 (dk_at dksL_law_26 9 rfl rfl)
theorem dL_law_807 : decode cL_law 807 = .ok (.iaload, 1) := dk_46 (dk_at dksL_law_26 10 rfl rfl)
theorem dL_law_808 : decode cL_law 808 = .ok (.invokevirtual 84, 3) := dk_182 0 84 (dk_at dksL_law_26 11 rfl rfl)
theorem dL_law_811 : decode cL_law 811 = .ok (.aload_n 2, 1) := dk_44 (dk_at dksL_law_26 14 rfl rfl)
theorem dL_law_812 : decode cL_law 812 = .ok (.aload_n 0, 1) := dk_42 (dk_at dksL_law_26 15 rfl rfl)
theorem dL_law_813 : decode cL_law 813 = .ok (.iload 4, 2) := dk_21 4 (dk_at dksL_law_26 16 rfl rfl)
theorem dL_law_815 : decode cL_law 815 = .ok (.iconst 1, 1) := dk_4 (dk_at dksL_law_26 18 rfl rfl)
theorem dL_law_816 : decode cL_law 816 = .ok (.iadd, 1) := dk_96 (dk_at dksL_law_26 19 rfl rfl)
theorem dL_law_817 : decode cL_law 817 = .ok (.iaload, 1) := dk_46 (dk_at dksL_law_26 20 rfl rfl)
theorem dL_law_818 : decode cL_law 818 = .ok (.aload_n 0, 1) := dk_42 (dk_at dksL_law_26 21 rfl rfl)
theorem dL_law_819 : decode cL_law 819 = .ok (.iload 4, 2) := dk_21 4 (dk_at dksL_law_26 22 rfl rfl)
theorem dL_law_821 : decode cL_law 821 = .ok (.iconst 2, 1) := dk_5 (dk_at dksL_law_27 0 rfl rfl)
theorem dL_law_822 : decode cL_law 822 = .ok (.iadd, 1) := dk_96 (dk_at dksL_law_27 1 rfl rfl)
theorem dL_law_823 : decode cL_law 823 = .ok (.iaload, 1) := dk_46 (dk_at dksL_law_27 2 rfl rfl)
theorem dL_law_824 : decode cL_law 824 = .ok (.invokevirtual 87, 3) := dk_182 0 87 (dk_at dksL_law_27 3 rfl rfl)
theorem dL_law_827 : decode cL_law 827 = .ok (.if_icmp .eq 1165, 3) := dk_159 4 141 (dk_at dksL_law_27 6 rfl rfl)
theorem dL_law_830 : decode cL_law 830 = .ok (.iconst 0, 1) := dk_3 (dk_at dksL_law_27 9 rfl rfl)
theorem dL_law_831 : decode cL_law 831 = .ok (.ireturn, 1) := dk_172 (dk_at dksL_law_27 10 rfl rfl)
theorem dL_law_832 : decode cL_law 832 = .ok (.aload_n 1, 1) := dk_43 (dk_at dksL_law_27 11 rfl rfl)
theorem dL_law_833 : decode cL_law 833 = .ok (.aload_n 0, 1) := dk_42 (dk_at dksL_law_27 12 rfl rfl)
theorem dL_law_834 : decode cL_law 834 = .ok (.iload 4, 2) := dk_21 4 (dk_at dksL_law_27 13 rfl rfl)
theorem dL_law_836 : decode cL_law 836 = .ok (.iconst 1, 1) := dk_4 (dk_at dksL_law_27 15 rfl rfl)
theorem dL_law_837 : decode cL_law 837 = .ok (.iadd, 1) := dk_96 (dk_at dksL_law_27 16 rfl rfl)
theorem dL_law_838 : decode cL_law 838 = .ok (.iaload, 1) := dk_46 (dk_at dksL_law_27 17 rfl rfl)
theorem dL_law_839 : decode cL_law 839 = .ok (.invokevirtual 88, 3) := dk_182 0 88 (dk_at dksL_law_27 18 rfl rfl)
theorem dL_law_842 : decode cL_law 842 = .ok (.aload_n 2, 1) := dk_44 (dk_at dksL_law_27 21 rfl rfl)
theorem dL_law_843 : decode cL_law 843 = .ok (.aload_n 0, 1) := dk_42 (dk_at dksL_law_27 22 rfl rfl)
theorem dL_law_844 : decode cL_law 844 = .ok (.iload 4, 2) := dk_21 4 (dk_at dksL_law_28 0 rfl rfl)
theorem dL_law_846 : decode cL_law 846 = .ok (.iconst 1, 1) := dk_4 (dk_at dksL_law_28 2 rfl rfl)
theorem dL_law_847 : decode cL_law 847 = .ok (.iadd, 1) := dk_96 (dk_at dksL_law_28 3 rfl rfl)
theorem dL_law_848 : decode cL_law 848 = .ok (.iaload, 1) := dk_46 (dk_at dksL_law_28 4 rfl rfl)
theorem dL_law_849 : decode cL_law 849 = .ok (.invokevirtual 91, 3) := dk_182 0 91 (dk_at dksL_law_28 5 rfl rfl)
theorem dL_law_852 : decode cL_law 852 = .ok (.if_icmp .eq 1140, 3) := dk_159 4 116 (dk_at dksL_law_28 8 rfl rfl)
theorem dL_law_855 : decode cL_law 855 = .ok (.iconst 0, 1) := dk_3 (dk_at dksL_law_28 11 rfl rfl)
theorem dL_law_856 : decode cL_law 856 = .ok (.ireturn, 1) := dk_172 (dk_at dksL_law_28 12 rfl rfl)
theorem dL_law_857 : decode cL_law 857 = .ok (.aload_n 1, 1) := dk_43 (dk_at dksL_law_28 13 rfl rfl)
theorem dL_law_858 : decode cL_law 858 = .ok (.aload_n 0, 1) := dk_42 (dk_at dksL_law_28 14 rfl rfl)
theorem dL_law_859 : decode cL_law 859 = .ok (.iload 4, 2) := dk_21 4 (dk_at dksL_law_28 15 rfl rfl)
theorem dL_law_861 : decode cL_law 861 = .ok (.iconst 1, 1) := dk_4 (dk_at dksL_law_28 17 rfl rfl)
theorem dL_law_862 : decode cL_law 862 = .ok (.iadd, 1) := dk_96 (dk_at dksL_law_28 18 rfl rfl)
theorem dL_law_863 : decode cL_law 863 = .ok (.iaload, 1) := dk_46 (dk_at dksL_law_28 19 rfl rfl)
theorem dL_law_864 : decode cL_law 864 = .ok (.aload_n 0, 1) := dk_42 (dk_at dksL_law_28 20 rfl rfl)
theorem dL_law_865 : decode cL_law 865 = .ok (.iload 4, 2) := dk_21 4 (dk_at dksL_law_28 21 rfl rfl)
theorem dL_law_867 : decode cL_law 867 = .ok (.iconst 2, 1) := dk_5 (dk_at dksL_law_28 23 rfl rfl)
theorem dL_law_868 : decode cL_law 868 = .ok (.iadd, 1) := dk_96 (dk_at dksL_law_29 0 rfl rfl)
theorem dL_law_869 : decode cL_law 869 = .ok (.iaload, 1) := dk_46 (dk_at dksL_law_29 1 rfl rfl)
theorem dL_law_870 : decode cL_law 870 = .ok (.invokevirtual 92, 3) := dk_182 0 92 (dk_at dksL_law_29 2 rfl rfl)
theorem dL_law_873 : decode cL_law 873 = .ok (.aload_n 2, 1) := dk_44 (dk_at dksL_law_29 5 rfl rfl)
theorem dL_law_874 : decode cL_law 874 = .ok (.aload_n 0, 1) := dk_42 (dk_at dksL_law_29 6 rfl rfl)
theorem dL_law_875 : decode cL_law 875 = .ok (.iload 4, 2) := dk_21 4 (dk_at dksL_law_29 7 rfl rfl)
theorem dL_law_877 : decode cL_law 877 = .ok (.iconst 1, 1) := dk_4 (dk_at dksL_law_29 9 rfl rfl)
theorem dL_law_878 : decode cL_law 878 = .ok (.iadd, 1) := dk_96 (dk_at dksL_law_29 10 rfl rfl)
theorem dL_law_879 : decode cL_law 879 = .ok (.iaload, 1) := dk_46 (dk_at dksL_law_29 11 rfl rfl)
theorem dL_law_880 : decode cL_law 880 = .ok (.aload_n 0, 1) := dk_42 (dk_at dksL_law_29 12 rfl rfl)
theorem dL_law_881 : decode cL_law 881 = .ok (.iload 4, 2) := dk_21 4 (dk_at dksL_law_29 13 rfl rfl)
theorem dL_law_883 : decode cL_law 883 = .ok (.iconst 2, 1) := dk_5 (dk_at dksL_law_29 15 rfl rfl)
theorem dL_law_884 : decode cL_law 884 = .ok (.iadd, 1) := dk_96 (dk_at dksL_law_29 16 rfl rfl)
theorem dL_law_885 : decode cL_law 885 = .ok (.iaload, 1) := dk_46 (dk_at dksL_law_29 17 rfl rfl)
theorem dL_law_886 : decode cL_law 886 = .ok (.invokevirtual 95, 3) := dk_182 0 95 (dk_at dksL_law_29 18 rfl rfl)
theorem dL_law_889 : decode cL_law 889 = .ok (.if_icmp .eq 1103, 3) := dk_159 4 79 (dk_at dksL_law_29 21 rfl rfl)
theorem dL_law_892 : decode cL_law 892 = .ok (.iconst 0, 1) := dk_3 (dk_at dksL_law_30 0 rfl rfl)
theorem dL_law_893 : decode cL_law 893 = .ok (.ireturn, 1) := dk_172 (dk_at dksL_law_30 1 rfl rfl)
theorem dL_law_894 : decode cL_law 894 = .ok (.aload_n 1, 1) := dk_43 (dk_at dksL_law_30 2 rfl rfl)
theorem dL_law_895 : decode cL_law 895 = .ok (.aload_n 0, 1) := dk_42 (dk_at dksL_law_30 3 rfl rfl)
theorem dL_law_896 : decode cL_law 896 = .ok (.iload 4, 2) := dk_21 4 (dk_at dksL_law_30 4 rfl rfl)
theorem dL_law_898 : decode cL_law 898 = .ok (.iconst 1, 1) := dk_4 (dk_at dksL_law_30 6 rfl rfl)
theorem dL_law_899 : decode cL_law 899 = .ok (.iadd, 1) := dk_96 (dk_at dksL_law_30 7 rfl rfl)
theorem dL_law_900 : decode cL_law 900 = .ok (.iaload, 1) := dk_46 (dk_at dksL_law_30 8 rfl rfl)
theorem dL_law_901 : decode cL_law 901 = .ok (.invokevirtual 96, 3) := dk_182 0 96 (dk_at dksL_law_30 9 rfl rfl)
theorem dL_law_904 : decode cL_law 904 = .ok (.aload_n 2, 1) := dk_44 (dk_at dksL_law_30 12 rfl rfl)
theorem dL_law_905 : decode cL_law 905 = .ok (.aload_n 0, 1) := dk_42 (dk_at dksL_law_30 13 rfl rfl)
theorem dL_law_906 : decode cL_law 906 = .ok (.iload 4, 2) := dk_21 4 (dk_at dksL_law_30 14 rfl rfl)
theorem dL_law_908 : decode cL_law 908 = .ok (.iconst 1, 1) := dk_4 (dk_at dksL_law_30 16 rfl rfl)
theorem dL_law_909 : decode cL_law 909 = .ok (.iadd, 1) := dk_96 (dk_at dksL_law_30 17 rfl rfl)
theorem dL_law_910 : decode cL_law 910 = .ok (.iaload, 1) := dk_46 (dk_at dksL_law_30 18 rfl rfl)
theorem dL_law_911 : decode cL_law 911 = .ok (.invokevirtual 99, 3) := dk_182 0 99 (dk_at dksL_law_30 19 rfl rfl)
theorem dL_law_914 : decode cL_law 914 = .ok (.if_icmp .eq 1078, 3) := dk_159 4 54 (dk_at dksL_law_31 0 rfl rfl)
theorem dL_law_917 : decode cL_law 917 = .ok (.iconst 0, 1) := dk_3 (dk_at dksL_law_31 3 rfl rfl)
theorem dL_law_918 : decode cL_law 918 = .ok (.ireturn, 1) := dk_172 (dk_at dksL_law_31 4 rfl rfl)
theorem dL_law_919 : decode cL_law 919 = .ok (.aload_n 1, 1) := dk_43 (dk_at dksL_law_31 5 rfl rfl)
theorem dL_law_920 : decode cL_law 920 = .ok (.aload_n 0, 1) := dk_42 (dk_at dksL_law_31 6 rfl rfl)
theorem dL_law_921 : decode cL_law 921 = .ok (.iload 4, 2) := dk_21 4 (dk_at dksL_law_31 7 rfl rfl)
theorem dL_law_923 : decode cL_law 923 = .ok (.iconst 1, 1) := dk_4 (dk_at dksL_law_31 9 rfl rfl)
theorem dL_law_924 : decode cL_law 924 = .ok (.iadd, 1) := dk_96 (dk_at dksL_law_31 10 rfl rfl)
theorem dL_law_925 : decode cL_law 925 = .ok (.iaload, 1) := dk_46 (dk_at dksL_law_31 11 rfl rfl)
theorem dL_law_926 : decode cL_law 926 = .ok (.invokevirtual 100, 3) := dk_182 0 100 (dk_at dksL_law_31 12 rfl rfl)
theorem dL_law_929 : decode cL_law 929 = .ok (.aload_n 2, 1) := dk_44 (dk_at dksL_law_31 15 rfl rfl)
theorem dL_law_930 : decode cL_law 930 = .ok (.aload_n 0, 1) := dk_42 (dk_at dksL_law_31 16 rfl rfl)
theorem dL_law_931 : decode cL_law 931 = .ok (.iload 4, 2) := dk_21 4 (dk_at dksL_law_31 17 rfl rfl)
theorem dL_law_933 : decode cL_law 933 = .ok (.iconst 1, 1) := dk_4 (dk_at dksL_law_31 19 rfl rfl)
theorem dL_law_934 : decode cL_law 934 = .ok (.iadd, 1) := dk_96 (dk_at dksL_law_31 20 rfl rfl)
theorem dL_law_935 : decode cL_law 935 = .ok (.iaload, 1) := dk_46 (dk_at dksL_law_31 21 rfl rfl)
theorem dL_law_936 : decode cL_law 936 = .ok (.invokevirtual 103, 3) := dk_182 0 103 (dk_at dksL_law_32 0 rfl rfl)
theorem dL_law_939 : decode cL_law 939 = .ok (.if_icmp .eq 1053, 3) := dk_159 4 29 (dk_at dksL_law_32 3 rfl rfl)
theorem dL_law_942 : decode cL_law 942 = .ok (.iconst 0, 1) := dk_3 (dk_at dksL_law_32 6 rfl rfl)
theorem dL_law_943 : decode cL_law 943 = .ok (.ireturn, 1) := dk_172 (dk_at dksL_law_32 7 rfl rfl)
theorem dL_law_944 : decode cL_law 944 = .ok (.aload_n 1, 1) := dk_43 (dk_at dksL_law_32 8 rfl rfl)
theorem dL_law_945 : decode cL_law 945 = .ok (.aload_n 0, 1) := dk_42 (dk_at dksL_law_32 9 rfl rfl)
theorem dL_law_946 : decode cL_law 946 = .ok (.iload 4, 2) := dk_21 4 (dk_at dksL_law_32 10 rfl rfl)
theorem dL_law_948 : decode cL_law 948 = .ok (.iconst 1, 1) := dk_4 (dk_at dksL_law_32 12 rfl rfl)
theorem dL_law_949 : decode cL_law 949 = .ok (.iadd, 1) := dk_96 (dk_at dksL_law_32 13 rfl rfl)
theorem dL_law_950 : decode cL_law 950 = .ok (.iaload, 1) := dk_46 (dk_at dksL_law_32 14 rfl rfl)
theorem dL_law_951 : decode cL_law 951 = .ok (.aload_n 0, 1) := dk_42 (dk_at dksL_law_32 15 rfl rfl)
theorem dL_law_952 : decode cL_law 952 = .ok (.iload 4, 2) := dk_21 4 (dk_at dksL_law_32 16 rfl rfl)
theorem dL_law_954 : decode cL_law 954 = .ok (.iconst 2, 1) := dk_5 (dk_at dksL_law_32 18 rfl rfl)
theorem dL_law_955 : decode cL_law 955 = .ok (.iadd, 1) := dk_96 (dk_at dksL_law_32 19 rfl rfl)
theorem dL_law_956 : decode cL_law 956 = .ok (.iaload, 1) := dk_46 (dk_at dksL_law_32 20 rfl rfl)
theorem dL_law_957 : decode cL_law 957 = .ok (.invokevirtual 104, 3) := dk_182 0 104 (dk_at dksL_law_32 21 rfl rfl)
theorem dL_law_960 : decode cL_law 960 = .ok (.aload_n 2, 1) := dk_44 (dk_at dksL_law_33 0 rfl rfl)
theorem dL_law_961 : decode cL_law 961 = .ok (.aload_n 0, 1) := dk_42 (dk_at dksL_law_33 1 rfl rfl)
theorem dL_law_962 : decode cL_law 962 = .ok (.iload 4, 2) := dk_21 4 (dk_at dksL_law_33 2 rfl rfl)
theorem dL_law_964 : decode cL_law 964 = .ok (.iconst 1, 1) := dk_4 (dk_at dksL_law_33 4 rfl rfl)
theorem dL_law_965 : decode cL_law 965 = .ok (.iadd, 1) := dk_96 (dk_at dksL_law_33 5 rfl rfl)
theorem dL_law_966 : decode cL_law 966 = .ok (.iaload, 1) := dk_46 (dk_at dksL_law_33 6 rfl rfl)
theorem dL_law_967 : decode cL_law 967 = .ok (.aload_n 0, 1) := dk_42 (dk_at dksL_law_33 7 rfl rfl)
theorem dL_law_968 : decode cL_law 968 = .ok (.iload 4, 2) := dk_21 4 (dk_at dksL_law_33 8 rfl rfl)
theorem dL_law_970 : decode cL_law 970 = .ok (.iconst 2, 1) := dk_5 (dk_at dksL_law_33 10 rfl rfl)
theorem dL_law_971 : decode cL_law 971 = .ok (.iadd, 1) := dk_96 (dk_at dksL_law_33 11 rfl rfl)
theorem dL_law_972 : decode cL_law 972 = .ok (.iaload, 1) := dk_46 (dk_at dksL_law_33 12 rfl rfl)
theorem dL_law_973 : decode cL_law 973 = .ok (.invokevirtual 107, 3) := dk_182 0 107 (dk_at dksL_law_33 13 rfl rfl)
theorem dL_law_976 : decode cL_law 976 = .ok (.if_icmp .eq 1016, 3) := dk_159 3 248 (dk_at dksL_law_33 16 rfl rfl)
theorem dL_law_979 : decode cL_law 979 = .ok (.iconst 0, 1) := dk_3 (dk_at dksL_law_33 19 rfl rfl)
theorem dL_law_980 : decode cL_law 980 = .ok (.ireturn, 1) := dk_172 (dk_at dksL_law_33 20 rfl rfl)
theorem dL_law_981 : decode cL_law 981 = .ok (.aload_n 1, 1) := dk_43 (dk_at dksL_law_33 21 rfl rfl)
theorem dL_law_982 : decode cL_law 982 = .ok (.aload_n 0, 1) := dk_42 (dk_at dksL_law_33 22 rfl rfl)
theorem dL_law_983 : decode cL_law 983 = .ok (.iload 4, 2) := dk_21 4 (dk_at dksL_law_34 0 rfl rfl)
theorem dL_law_985 : decode cL_law 985 = .ok (.iconst 1, 1) := dk_4 (dk_at dksL_law_34 2 rfl rfl)
theorem dL_law_986 : decode cL_law 986 = .ok (.iadd, 1) := dk_96 (dk_at dksL_law_34 3 rfl rfl)
theorem dL_law_987 : decode cL_law 987 = .ok (.iaload, 1) := dk_46 (dk_at dksL_law_34 4 rfl rfl)
theorem dL_law_988 : decode cL_law 988 = .ok (.invokevirtual 108, 3) := dk_182 0 108 (dk_at dksL_law_34 5 rfl rfl)
theorem dL_law_991 : decode cL_law 991 = .ok (.aload_n 2, 1) := dk_44 (dk_at dksL_law_34 8 rfl rfl)
theorem dL_law_992 : decode cL_law 992 = .ok (.aload_n 0, 1) := dk_42 (dk_at dksL_law_34 9 rfl rfl)
theorem dL_law_993 : decode cL_law 993 = .ok (.iload 4, 2) := dk_21 4 (dk_at dksL_law_34 10 rfl rfl)
theorem dL_law_995 : decode cL_law 995 = .ok (.iconst 1, 1) := dk_4 (dk_at dksL_law_34 12 rfl rfl)
theorem dL_law_996 : decode cL_law 996 = .ok (.iadd, 1) := dk_96 (dk_at dksL_law_34 13 rfl rfl)
theorem dL_law_997 : decode cL_law 997 = .ok (.iaload, 1) := dk_46 (dk_at dksL_law_34 14 rfl rfl)
theorem dL_law_998 : decode cL_law 998 = .ok (.invokevirtual 111, 3) := dk_182 0 111 (dk_at dksL_law_34 15 rfl rfl)
theorem dL_law_1001 : decode cL_law 1001 = .ok (.if_icmp .eq 991, 3) := dk_159 3 223 (dk_at dksL_law_34 18 rfl rfl)
theorem dL_law_1004 : decode cL_law 1004 = .ok (.iconst 0, 1) := dk_3 (dk_at dksL_law_34 21 rfl rfl)
theorem dL_law_1005 : decode cL_law 1005 = .ok (.ireturn, 1) := dk_172 (dk_at dksL_law_34 22 rfl rfl)
theorem dL_law_1006 : decode cL_law 1006 = .ok (.aload_n 1, 1) := dk_43 (dk_at dksL_law_34 23 rfl rfl)
theorem dL_law_1007 : decode cL_law 1007 = .ok (.aload_n 0, 1) := dk_42 (dk_at dksL_law_35 0 rfl rfl)
theorem dL_law_1008 : decode cL_law 1008 = .ok (.iload 4, 2) := dk_21 4 (dk_at dksL_law_35 1 rfl rfl)
theorem dL_law_1010 : decode cL_law 1010 = .ok (.iconst 1, 1) := dk_4 (dk_at dksL_law_35 3 rfl rfl)
theorem dL_law_1011 : decode cL_law 1011 = .ok (.iadd, 1) := dk_96 (dk_at dksL_law_35 4 rfl rfl)
theorem dL_law_1012 : decode cL_law 1012 = .ok (.iaload, 1) := dk_46 (dk_at dksL_law_35 5 rfl rfl)
theorem dL_law_1013 : decode cL_law 1013 = .ok (.invokevirtual 112, 3) := dk_182 0 112 (dk_at dksL_law_35 6 rfl rfl)
theorem dL_law_1016 : decode cL_law 1016 = .ok (.aload_n 2, 1) := dk_44 (dk_at dksL_law_35 9 rfl rfl)
theorem dL_law_1017 : decode cL_law 1017 = .ok (.aload_n 0, 1) := dk_42 (dk_at dksL_law_35 10 rfl rfl)
theorem dL_law_1018 : decode cL_law 1018 = .ok (.iload 4, 2) := dk_21 4 (dk_at dksL_law_35 11 rfl rfl)
theorem dL_law_1020 : decode cL_law 1020 = .ok (.iconst 1, 1) := dk_4 (dk_at dksL_law_35 13 rfl rfl)
theorem dL_law_1021 : decode cL_law 1021 = .ok (.iadd, 1) := dk_96 (dk_at dksL_law_35 14 rfl rfl)
theorem dL_law_1022 : decode cL_law 1022 = .ok (.iaload, 1) := dk_46 (dk_at dksL_law_35 15 rfl rfl)
theorem dL_law_1023 : decode cL_law 1023 = .ok (.invokevirtual 115, 3) := dk_182 0 115 (dk_at dksL_law_35 16 rfl rfl)
theorem dL_law_1026 : decode cL_law 1026 = .ok (.if_icmp .eq 966, 3) := dk_159 3 198 (dk_at dksL_law_35 19 rfl rfl)
theorem dL_law_1029 : decode cL_law 1029 = .ok (.iconst 0, 1) := dk_3 (dk_at dksL_law_35 22 rfl rfl)
theorem dL_law_1030 : decode cL_law 1030 = .ok (.ireturn, 1) := dk_172 (dk_at dksL_law_35 23 rfl rfl)
theorem dL_law_1031 : decode cL_law 1031 = .ok (.aload_n 1, 1) := dk_43 (dk_at dksL_law_36 0 rfl rfl)
theorem dL_law_1032 : decode cL_law 1032 = .ok (.aload_n 0, 1) := dk_42 (dk_at dksL_law_36 1 rfl rfl)
theorem dL_law_1033 : decode cL_law 1033 = .ok (.iload 4, 2) := dk_21 4 (dk_at dksL_law_36 2 rfl rfl)
theorem dL_law_1035 : decode cL_law 1035 = .ok (.iconst 1, 1) := dk_4 (dk_at dksL_law_36 4 rfl rfl)
theorem dL_law_1036 : decode cL_law 1036 = .ok (.iadd, 1) := dk_96 (dk_at dksL_law_36 5 rfl rfl)
theorem dL_law_1037 : decode cL_law 1037 = .ok (.iaload, 1) := dk_46 (dk_at dksL_law_36 6 rfl rfl)
theorem dL_law_1038 : decode cL_law 1038 = .ok (.aload_n 0, 1) := dk_42 (dk_at dksL_law_36 7 rfl rfl)
theorem dL_law_1039 : decode cL_law 1039 = .ok (.iload 4, 2) := dk_21 4 (dk_at dksL_law_36 8 rfl rfl)
theorem dL_law_1041 : decode cL_law 1041 = .ok (.iconst 2, 1) := dk_5 (dk_at dksL_law_36 10 rfl rfl)
theorem dL_law_1042 : decode cL_law 1042 = .ok (.iadd, 1) := dk_96 (dk_at dksL_law_36 11 rfl rfl)
theorem dL_law_1043 : decode cL_law 1043 = .ok (.iaload, 1) := dk_46 (dk_at dksL_law_36 12 rfl rfl)
theorem dL_law_1044 : decode cL_law 1044 = .ok (.invokevirtual 116, 3) := dk_182 0 116 (dk_at dksL_law_36 13 rfl rfl)
theorem dL_law_1047 : decode cL_law 1047 = .ok (.aload_n 2, 1) := dk_44 (dk_at dksL_law_36 16 rfl rfl)
theorem dL_law_1048 : decode cL_law 1048 = .ok (.aload_n 0, 1) := dk_42 (dk_at dksL_law_36 17 rfl rfl)
theorem dL_law_1049 : decode cL_law 1049 = .ok (.iload 4, 2) := dk_21 4 (dk_at dksL_law_36 18 rfl rfl)
theorem dL_law_1051 : decode cL_law 1051 = .ok (.iconst 1, 1) := dk_4 (dk_at dksL_law_36 20 rfl rfl)
theorem dL_law_1052 : decode cL_law 1052 = .ok (.iadd, 1) := dk_96 (dk_at dksL_law_36 21 rfl rfl)
theorem dL_law_1053 : decode cL_law 1053 = .ok (.iaload, 1) := dk_46 (dk_at dksL_law_36 22 rfl rfl)
theorem dL_law_1054 : decode cL_law 1054 = .ok (.aload_n 0, 1) := dk_42 (dk_at dksL_law_36 23 rfl rfl)
theorem dL_law_1055 : decode cL_law 1055 = .ok (.iload 4, 2) := dk_21 4 (dk_at dksL_law_37 0 rfl rfl)
theorem dL_law_1057 : decode cL_law 1057 = .ok (.iconst 2, 1) := dk_5 (dk_at dksL_law_37 2 rfl rfl)
theorem dL_law_1058 : decode cL_law 1058 = .ok (.iadd, 1) := dk_96 (dk_at dksL_law_37 3 rfl rfl)
theorem dL_law_1059 : decode cL_law 1059 = .ok (.iaload, 1) := dk_46 (dk_at dksL_law_37 4 rfl rfl)
theorem dL_law_1060 : decode cL_law 1060 = .ok (.invokevirtual 119, 3) := dk_182 0 119 (dk_at dksL_law_37 5 rfl rfl)
theorem dL_law_1063 : decode cL_law 1063 = .ok (.if_icmp .eq 929, 3) := dk_159 3 161 (dk_at dksL_law_37 8 rfl rfl)
theorem dL_law_1066 : decode cL_law 1066 = .ok (.iconst 0, 1) := dk_3 (dk_at dksL_law_37 11 rfl rfl)
theorem dL_law_1067 : decode cL_law 1067 = .ok (.ireturn, 1) := dk_172 (dk_at dksL_law_37 12 rfl rfl)
theorem dL_law_1068 : decode cL_law 1068 = .ok (.aload_n 1, 1) := dk_43 (dk_at dksL_law_37 13 rfl rfl)
theorem dL_law_1069 : decode cL_law 1069 = .ok (.aload_n 0, 1) := dk_42 (dk_at dksL_law_37 14 rfl rfl)
theorem dL_law_1070 : decode cL_law 1070 = .ok (.iload 4, 2) := dk_21 4 (dk_at dksL_law_37 15 rfl rfl)
theorem dL_law_1072 : decode cL_law 1072 = .ok (.iconst 1, 1) := dk_4 (dk_at dksL_law_37 17 rfl rfl)
theorem dL_law_1073 : decode cL_law 1073 = .ok (.iadd, 1) := dk_96 (dk_at dksL_law_37 18 rfl rfl)
theorem dL_law_1074 : decode cL_law 1074 = .ok (.iaload, 1) := dk_46 (dk_at dksL_law_37 19 rfl rfl)
theorem dL_law_1075 : decode cL_law 1075 = .ok (.aload_n 0, 1) := dk_42 (dk_at dksL_law_37 20 rfl rfl)
theorem dL_law_1076 : decode cL_law 1076 = .ok (.iload 4, 2) := dk_21 4 (dk_at dksL_law_37 21 rfl rfl)
theorem dL_law_1078 : decode cL_law 1078 = .ok (.iconst 2, 1) := dk_5 (dk_at dksL_law_37 23 rfl rfl)
theorem dL_law_1079 : decode cL_law 1079 = .ok (.iadd, 1) := dk_96 (dk_at dksL_law_38 0 rfl rfl)
theorem dL_law_1080 : decode cL_law 1080 = .ok (.iaload, 1) := dk_46 (dk_at dksL_law_38 1 rfl rfl)
theorem dL_law_1081 : decode cL_law 1081 = .ok (.aload_n 0, 1) := dk_42 (dk_at dksL_law_38 2 rfl rfl)
theorem dL_law_1082 : decode cL_law 1082 = .ok (.iload 4, 2) := dk_21 4 (dk_at dksL_law_38 3 rfl rfl)
theorem dL_law_1084 : decode cL_law 1084 = .ok (.iconst 3, 1) := dk_6 (dk_at dksL_law_38 5 rfl rfl)
theorem dL_law_1085 : decode cL_law 1085 = .ok (.iadd, 1) := dk_96 (dk_at dksL_law_38 6 rfl rfl)
theorem dL_law_1086 : decode cL_law 1086 = .ok (.iaload, 1) := dk_46 (dk_at dksL_law_38 7 rfl rfl)
theorem dL_law_1087 : decode cL_law 1087 = .ok (.invokevirtual 120, 3) := dk_182 0 120 (dk_at dksL_law_38 8 rfl rfl)
theorem dL_law_1090 : decode cL_law 1090 = .ok (.aload_n 2, 1) := dk_44 (dk_at dksL_law_38 11 rfl rfl)
theorem dL_law_1091 : decode cL_law 1091 = .ok (.aload_n 0, 1) := dk_42 (dk_at dksL_law_38 12 rfl rfl)
theorem dL_law_1092 : decode cL_law 1092 = .ok (.iload 4, 2) := dk_21 4 (dk_at dksL_law_38 13 rfl rfl)
theorem dL_law_1094 : decode cL_law 1094 = .ok (.iconst 1, 1) := dk_4 (dk_at dksL_law_38 15 rfl rfl)
theorem dL_law_1095 : decode cL_law 1095 = .ok (.iadd, 1) := dk_96 (dk_at dksL_law_38 16 rfl rfl)
theorem dL_law_1096 : decode cL_law 1096 = .ok (.iaload, 1) := dk_46 (dk_at dksL_law_38 17 rfl rfl)
theorem dL_law_1097 : decode cL_law 1097 = .ok (.aload_n 0, 1) := dk_42 (dk_at dksL_law_38 18 rfl rfl)
theorem dL_law_1098 : decode cL_law 1098 = .ok (.iload 4, 2) := dk_21 4 (dk_at dksL_law_38 19 rfl rfl)
theorem dL_law_1100 : decode cL_law 1100 = .ok (.iconst 2, 1) := dk_5 (dk_at dksL_law_38 21 rfl rfl)
theorem dL_law_1101 : decode cL_law 1101 = .ok (.iadd, 1) := dk_96 (dk_at dksL_law_38 22 rfl rfl)
theorem dL_law_1102 : decode cL_law 1102 = .ok (.iaload, 1) := dk_46 (dk_at dksL_law_38 23 rfl rfl)
theorem dL_law_1103 : decode cL_law 1103 = .ok (.aload_n 0, 1) := dk_42 (dk_at dksL_law_39 0 rfl rfl)
theorem dL_law_1104 : decode cL_law 1104 = .ok (.iload 4, 2) := dk_21 4 (dk_at dksL_law_39 1 rfl rfl)
theorem dL_law_1106 : decode cL_law 1106 = .ok (.iconst 3, 1) := dk_6 (dk_at dksL_law_39 3 rfl rfl)
theorem dL_law_1107 : decode cL_law 1107 = .ok (.iadd, 1) := dk_96 (dk_at dksL_law_39 4 rfl rfl)
theorem dL_law_1108 : decode cL_law 1108 = .ok (.iaload, 1) := dk_46 (dk_at dksL_law_39 5 rfl rfl)
theorem dL_law_1109 : decode cL_law 1109 = .ok (.invokevirtual 123, 3) := dk_182 0 123 (dk_at dksL_law_39 6 rfl rfl)
theorem dL_law_1112 : decode cL_law 1112 = .ok (.if_icmp .eq 880, 3) := dk_159 3 112 (dk_at dksL_law_39 9 rfl rfl)
theorem dL_law_1115 : decode cL_law 1115 = .ok (.iconst 0, 1) := dk_3 (dk_at dksL_law_39 12 rfl rfl)
theorem dL_law_1116 : decode cL_law 1116 = .ok (.ireturn, 1) := dk_172 (dk_at dksL_law_39 13 rfl rfl)
theorem dL_law_1117 : decode cL_law 1117 = .ok (.aload_n 1, 1) := dk_43 (dk_at dksL_law_39 14 rfl rfl)
theorem dL_law_1118 : decode cL_law 1118 = .ok (.aload_n 0, 1) := dk_42 (dk_at dksL_law_39 15 rfl rfl)
theorem dL_law_1119 : decode cL_law 1119 = .ok (.iload 4, 2) := dk_21 4 (dk_at dksL_law_39 16 rfl rfl)
theorem dL_law_1121 : decode cL_law 1121 = .ok (.iconst 1, 1) := dk_4 (dk_at dksL_law_39 18 rfl rfl)
theorem dL_law_1122 : decode cL_law 1122 = .ok (.iadd, 1) := dk_96 (dk_at dksL_law_39 19 rfl rfl)
theorem dL_law_1123 : decode cL_law 1123 = .ok (.iaload, 1) := dk_46 (dk_at dksL_law_39 20 rfl rfl)
theorem dL_law_1124 : decode cL_law 1124 = .ok (.aload_n 0, 1) := dk_42 (dk_at dksL_law_39 21 rfl rfl)
theorem dL_law_1125 : decode cL_law 1125 = .ok (.iload 4, 2) := dk_21 4 (dk_at dksL_law_39 22 rfl rfl)
theorem dL_law_1127 : decode cL_law 1127 = .ok (.iconst 2, 1) := dk_5 (dk_at dksL_law_40 0 rfl rfl)
theorem dL_law_1128 : decode cL_law 1128 = .ok (.iadd, 1) := dk_96 (dk_at dksL_law_40 1 rfl rfl)
theorem dL_law_1129 : decode cL_law 1129 = .ok (.iaload, 1) := dk_46 (dk_at dksL_law_40 2 rfl rfl)
theorem dL_law_1130 : decode cL_law 1130 = .ok (.invokevirtual 124, 3) := dk_182 0 124 (dk_at dksL_law_40 3 rfl rfl)
theorem dL_law_1133 : decode cL_law 1133 = .ok (.aload_n 2, 1) := dk_44 (dk_at dksL_law_40 6 rfl rfl)
theorem dL_law_1134 : decode cL_law 1134 = .ok (.aload_n 0, 1) := dk_42 (dk_at dksL_law_40 7 rfl rfl)
theorem dL_law_1135 : decode cL_law 1135 = .ok (.iload 4, 2) := dk_21 4 (dk_at dksL_law_40 8 rfl rfl)
theorem dL_law_1137 : decode cL_law 1137 = .ok (.iconst 1, 1) := dk_4 (dk_at dksL_law_40 10 rfl rfl)
theorem dL_law_1138 : decode cL_law 1138 = .ok (.iadd, 1) := dk_96 (dk_at dksL_law_40 11 rfl rfl)
theorem dL_law_1139 : decode cL_law 1139 = .ok (.iaload, 1) := dk_46 (dk_at dksL_law_40 12 rfl rfl)
theorem dL_law_1140 : decode cL_law 1140 = .ok (.aload_n 0, 1) := dk_42 (dk_at dksL_law_40 13 rfl rfl)
theorem dL_law_1141 : decode cL_law 1141 = .ok (.iload 4, 2) := dk_21 4 (dk_at dksL_law_40 14 rfl rfl)
theorem dL_law_1143 : decode cL_law 1143 = .ok (.iconst 2, 1) := dk_5 (dk_at dksL_law_40 16 rfl rfl)
theorem dL_law_1144 : decode cL_law 1144 = .ok (.iadd, 1) := dk_96 (dk_at dksL_law_40 17 rfl rfl)
theorem dL_law_1145 : decode cL_law 1145 = .ok (.iaload, 1) := dk_46 (dk_at dksL_law_40 18 rfl rfl)
theorem dL_law_1146 : decode cL_law 1146 = .ok (.invokevirtual 127, 3) := dk_182 0 127 (dk_at dksL_law_40 19 rfl rfl)
theorem dL_law_1149 : decode cL_law 1149 = .ok (.if_icmp .eq 843, 3) := dk_159 3 75 (dk_at dksL_law_41 0 rfl rfl)
theorem dL_law_1152 : decode cL_law 1152 = .ok (.iconst 0, 1) := dk_3 (dk_at dksL_law_41 3 rfl rfl)
theorem dL_law_1153 : decode cL_law 1153 = .ok (.ireturn, 1) := dk_172 (dk_at dksL_law_41 4 rfl rfl)
theorem dL_law_1154 : decode cL_law 1154 = .ok (.aload_n 1, 1) := dk_43 (dk_at dksL_law_41 5 rfl rfl)
theorem dL_law_1155 : decode cL_law 1155 = .ok (.aload_n 0, 1) := dk_42 (dk_at dksL_law_41 6 rfl rfl)
theorem dL_law_1156 : decode cL_law 1156 = .ok (.iload 4, 2) := dk_21 4 (dk_at dksL_law_41 7 rfl rfl)
theorem dL_law_1158 : decode cL_law 1158 = .ok (.iconst 1, 1) := dk_4 (dk_at dksL_law_41 9 rfl rfl)
theorem dL_law_1159 : decode cL_law 1159 = .ok (.iadd, 1) := dk_96 (dk_at dksL_law_41 10 rfl rfl)
theorem dL_law_1160 : decode cL_law 1160 = .ok (.iaload, 1) := dk_46 (dk_at dksL_law_41 11 rfl rfl)
theorem dL_law_1161 : decode cL_law 1161 = .ok (.invokevirtual 128, 3) := dk_182 0 128 (dk_at dksL_law_41 12 rfl rfl)
theorem dL_law_1164 : decode cL_law 1164 = .ok (.aload_n 2, 1) := dk_44 (dk_at dksL_law_41 15 rfl rfl)
theorem dL_law_1165 : decode cL_law 1165 = .ok (.aload_n 0, 1) := dk_42 (dk_at dksL_law_41 16 rfl rfl)
theorem dL_law_1166 : decode cL_law 1166 = .ok (.iload 4, 2) := dk_21 4 (dk_at dksL_law_41 17 rfl rfl)
theorem dL_law_1168 : decode cL_law 1168 = .ok (.iconst 1, 1) := dk_4 (dk_at dksL_law_41 19 rfl rfl)
theorem dL_law_1169 : decode cL_law 1169 = .ok (.iadd, 1) := dk_96 (dk_at dksL_law_41 20 rfl rfl)
theorem dL_law_1170 : decode cL_law 1170 = .ok (.iaload, 1) := dk_46 (dk_at dksL_law_41 21 rfl rfl)
theorem dL_law_1171 : decode cL_law 1171 = .ok (.invokevirtual 131, 3) := dk_182 0 131 (dk_at dksL_law_42 0 rfl rfl)
theorem dL_law_1174 : decode cL_law 1174 = .ok (.if_icmp .eq 818, 3) := dk_159 3 50 (dk_at dksL_law_42 3 rfl rfl)
theorem dL_law_1177 : decode cL_law 1177 = .ok (.iconst 0, 1) := dk_3 (dk_at dksL_law_42 6 rfl rfl)
theorem dL_law_1178 : decode cL_law 1178 = .ok (.ireturn, 1) := dk_172 (dk_at dksL_law_42 7 rfl rfl)
theorem dL_law_1179 : decode cL_law 1179 = .ok (.aload_n 1, 1) := dk_43 (dk_at dksL_law_42 8 rfl rfl)
theorem dL_law_1180 : decode cL_law 1180 = .ok (.aload_n 0, 1) := dk_42 (dk_at dksL_law_42 9 rfl rfl)
theorem dL_law_1181 : decode cL_law 1181 = .ok (.iload 4, 2) := dk_21 4 (dk_at dksL_law_42 10 rfl rfl)
theorem dL_law_1183 : decode cL_law 1183 = .ok (.iconst 1, 1) := dk_4 (dk_at dksL_law_42 12 rfl rfl)
theorem dL_law_1184 : decode cL_law 1184 = .ok (.iadd, 1) := dk_96 (dk_at dksL_law_42 13 rfl rfl)
theorem dL_law_1185 : decode cL_law 1185 = .ok (.iaload, 1) := dk_46 (dk_at dksL_law_42 14 rfl rfl)
theorem dL_law_1186 : decode cL_law 1186 = .ok (.aload_n 0, 1) := dk_42 (dk_at dksL_law_42 15 rfl rfl)
theorem dL_law_1187 : decode cL_law 1187 = .ok (.iload 4, 2) := dk_21 4 (dk_at dksL_law_42 16 rfl rfl)
theorem dL_law_1189 : decode cL_law 1189 = .ok (.iconst 2, 1) := dk_5 (dk_at dksL_law_42 18 rfl rfl)
theorem dL_law_1190 : decode cL_law 1190 = .ok (.iadd, 1) := dk_96 (dk_at dksL_law_42 19 rfl rfl)
theorem dL_law_1191 : decode cL_law 1191 = .ok (.iaload, 1) := dk_46 (dk_at dksL_law_42 20 rfl rfl)
theorem dL_law_1192 : decode cL_law 1192 = .ok (.aload_n 0, 1) := dk_42 (dk_at dksL_law_42 21 rfl rfl)
theorem dL_law_1193 : decode cL_law 1193 = .ok (.iload 4, 2) := dk_21 4 (dk_at dksL_law_42 22 rfl rfl)
theorem dL_law_1195 : decode cL_law 1195 = .ok (.iconst 3, 1) := dk_6 (dk_at dksL_law_43 0 rfl rfl)
theorem dL_law_1196 : decode cL_law 1196 = .ok (.iadd, 1) := dk_96 (dk_at dksL_law_43 1 rfl rfl)
theorem dL_law_1197 : decode cL_law 1197 = .ok (.iaload, 1) := dk_46 (dk_at dksL_law_43 2 rfl rfl)
theorem dL_law_1198 : decode cL_law 1198 = .ok (.invokevirtual 132, 3) := dk_182 0 132 (dk_at dksL_law_43 3 rfl rfl)
theorem dL_law_1201 : decode cL_law 1201 = .ok (.aload_n 2, 1) := dk_44 (dk_at dksL_law_43 6 rfl rfl)
theorem dL_law_1202 : decode cL_law 1202 = .ok (.aload_n 0, 1) := dk_42 (dk_at dksL_law_43 7 rfl rfl)
theorem dL_law_1203 : decode cL_law 1203 = .ok (.iload 4, 2) := dk_21 4 (dk_at dksL_law_43 8 rfl rfl)
theorem dL_law_1205 : decode cL_law 1205 = .ok (.iconst 1, 1) := dk_4 (dk_at dksL_law_43 10 rfl rfl)
theorem dL_law_1206 : decode cL_law 1206 = .ok (.iadd, 1) := dk_96 (dk_at dksL_law_43 11 rfl rfl)
theorem dL_law_1207 : decode cL_law 1207 = .ok (.iaload, 1) := dk_46 (dk_at dksL_law_43 12 rfl rfl)
theorem dL_law_1208 : decode cL_law 1208 = .ok (.aload_n 0, 1) := dk_42 (dk_at dksL_law_43 13 rfl rfl)
theorem dL_law_1209 : decode cL_law 1209 = .ok (.iload 4, 2) := dk_21 4 (dk_at dksL_law_43 14 rfl rfl)
theorem dL_law_1211 : decode cL_law 1211 = .ok (.iconst 2, 1) := dk_5 (dk_at dksL_law_43 16 rfl rfl)
theorem dL_law_1212 : decode cL_law 1212 = .ok (.iadd, 1) := dk_96 (dk_at dksL_law_43 17 rfl rfl)
theorem dL_law_1213 : decode cL_law 1213 = .ok (.iaload, 1) := dk_46 (dk_at dksL_law_43 18 rfl rfl)
theorem dL_law_1214 : decode cL_law 1214 = .ok (.aload_n 0, 1) := dk_42 (dk_at dksL_law_43 19 rfl rfl)
theorem dL_law_1215 : decode cL_law 1215 = .ok (.iload 4, 2) := dk_21 4 (dk_at dksL_law_43 20 rfl rfl)
theorem dL_law_1217 : decode cL_law 1217 = .ok (.iconst 3, 1) := dk_6 (dk_at dksL_law_43 22 rfl rfl)
theorem dL_law_1218 : decode cL_law 1218 = .ok (.iadd, 1) := dk_96 (dk_at dksL_law_43 23 rfl rfl)
theorem dL_law_1219 : decode cL_law 1219 = .ok (.iaload, 1) := dk_46 (dk_at dksL_law_44 0 rfl rfl)
theorem dL_law_1220 : decode cL_law 1220 = .ok (.invokevirtual 135, 3) := dk_182 0 135 (dk_at dksL_law_44 1 rfl rfl)
theorem dL_law_1223 : decode cL_law 1223 = .ok (.if_icmp .eq 769, 3) := dk_159 3 1 (dk_at dksL_law_44 4 rfl rfl)
theorem dL_law_1226 : decode cL_law 1226 = .ok (.iconst 0, 1) := dk_3 (dk_at dksL_law_44 7 rfl rfl)
theorem dL_law_1227 : decode cL_law 1227 = .ok (.ireturn, 1) := dk_172 (dk_at dksL_law_44 8 rfl rfl)
theorem dL_law_1228 : decode cL_law 1228 = .ok (.aload_n 1, 1) := dk_43 (dk_at dksL_law_44 9 rfl rfl)
theorem dL_law_1229 : decode cL_law 1229 = .ok (.aload_n 0, 1) := dk_42 (dk_at dksL_law_44 10 rfl rfl)
theorem dL_law_1230 : decode cL_law 1230 = .ok (.iload 4, 2) := dk_21 4 (dk_at dksL_law_44 11 rfl rfl)
theorem dL_law_1232 : decode cL_law 1232 = .ok (.iconst 1, 1) := dk_4 (dk_at dksL_law_44 13 rfl rfl)
theorem dL_law_1233 : decode cL_law 1233 = .ok (.iadd, 1) := dk_96 (dk_at dksL_law_44 14 rfl rfl)
theorem dL_law_1234 : decode cL_law 1234 = .ok (.iaload, 1) := dk_46 (dk_at dksL_law_44 15 rfl rfl)
theorem dL_law_1235 : decode cL_law 1235 = .ok (.aload_n 0, 1) := dk_42 (dk_at dksL_law_44 16 rfl rfl)
theorem dL_law_1236 : decode cL_law 1236 = .ok (.iload 4, 2) := dk_21 4 (dk_at dksL_law_44 17 rfl rfl)
theorem dL_law_1238 : decode cL_law 1238 = .ok (.iconst 2, 1) := dk_5 (dk_at dksL_law_44 19 rfl rfl)
theorem dL_law_1239 : decode cL_law 1239 = .ok (.iadd, 1) := dk_96 (dk_at dksL_law_44 20 rfl rfl)
theorem dL_law_1240 : decode cL_law 1240 = .ok (.iaload, 1) := dk_46 (dk_at dksL_law_44 21 rfl rfl)
theorem dL_law_1241 : decode cL_law 1241 = .ok (.invokevirtual 136, 3) := dk_182 0 136 (dk_at dksL_law_45 0 rfl rfl)
theorem dL_law_1244 : decode cL_law 1244 = .ok (.aload_n 2, 1) := dk_44 (dk_at dksL_law_45 3 rfl rfl)
theorem dL_law_1245 : decode cL_law 1245 = .ok (.aload_n 0, 1) := dk_42 (dk_at dksL_law_45 4 rfl rfl)
theorem dL_law_1246 : decode cL_law 1246 = .ok (.iload 4, 2) := dk_21 4 (dk_at dksL_law_45 5 rfl rfl)
theorem dL_law_1248 : decode cL_law 1248 = .ok (.iconst 1, 1) := dk_4 (dk_at dksL_law_45 7 rfl rfl)
theorem dL_law_1249 : decode cL_law 1249 = .ok (.iadd, 1) := dk_96 (dk_at dksL_law_45 8 rfl rfl)
theorem dL_law_1250 : decode cL_law 1250 = .ok (.iaload, 1) := dk_46 (dk_at dksL_law_45 9 rfl rfl)
theorem dL_law_1251 : decode cL_law 1251 = .ok (.aload_n 0, 1) := dk_42 (dk_at dksL_law_45 10 rfl rfl)
theorem dL_law_1252 : decode cL_law 1252 = .ok (.iload 4, 2) := dk_21 4 (dk_at dksL_law_45 11 rfl rfl)
theorem dL_law_1254 : decode cL_law 1254 = .ok (.iconst 2, 1) := dk_5 (dk_at dksL_law_45 13 rfl rfl)
theorem dL_law_1255 : decode cL_law 1255 = .ok (.iadd, 1) := dk_96 (dk_at dksL_law_45 14 rfl rfl)
theorem dL_law_1256 : decode cL_law 1256 = .ok (.iaload, 1) := dk_46 (dk_at dksL_law_45 15 rfl rfl)
theorem dL_law_1257 : decode cL_law 1257 = .ok (.invokevirtual 139, 3) := dk_182 0 139 (dk_at dksL_law_45 16 rfl rfl)
theorem dL_law_1260 : decode cL_law 1260 = .ok (.if_icmp .eq 732, 3) := dk_159 2 220 (dk_at dksL_law_45 19 rfl rfl)
theorem dL_law_1263 : decode cL_law 1263 = .ok (.iconst 0, 1) := dk_3 (dk_at dksL_law_45 22 rfl rfl)
theorem dL_law_1264 : decode cL_law 1264 = .ok (.ireturn, 1) := dk_172 (dk_at dksL_law_45 23 rfl rfl)
theorem dL_law_1265 : decode cL_law 1265 = .ok (.aload_n 1, 1) := dk_43 (dk_at dksL_law_46 0 rfl rfl)
theorem dL_law_1266 : decode cL_law 1266 = .ok (.aload_n 0, 1) := dk_42 (dk_at dksL_law_46 1 rfl rfl)
theorem dL_law_1267 : decode cL_law 1267 = .ok (.iload 4, 2) := dk_21 4 (dk_at dksL_law_46 2 rfl rfl)
theorem dL_law_1269 : decode cL_law 1269 = .ok (.iconst 1, 1) := dk_4 (dk_at dksL_law_46 4 rfl rfl)
theorem dL_law_1270 : decode cL_law 1270 = .ok (.iadd, 1) := dk_96 (dk_at dksL_law_46 5 rfl rfl)
theorem dL_law_1271 : decode cL_law 1271 = .ok (.iaload, 1) := dk_46 (dk_at dksL_law_46 6 rfl rfl)
theorem dL_law_1272 : decode cL_law 1272 = .ok (.invokevirtual 140, 3) := dk_182 0 140 (dk_at dksL_law_46 7 rfl rfl)
theorem dL_law_1275 : decode cL_law 1275 = .ok (.aload_n 2, 1) := dk_44 (dk_at dksL_law_46 10 rfl rfl)
theorem dL_law_1276 : decode cL_law 1276 = .ok (.aload_n 0, 1) := dk_42 (dk_at dksL_law_46 11 rfl rfl)
theorem dL_law_1277 : decode cL_law 1277 = .ok (.iload 4, 2) := dk_21 4 (dk_at dksL_law_46 12 rfl rfl)
theorem dL_law_1279 : decode cL_law 1279 = .ok (.iconst 1, 1) := dk_4 (dk_at dksL_law_46 14 rfl rfl)
theorem dL_law_1280 : decode cL_law 1280 = .ok (.iadd, 1) := dk_96 (dk_at dksL_law_46 15 rfl rfl)
theorem dL_law_1281 : decode cL_law 1281 = .ok (.iaload, 1) := dk_46 (dk_at dksL_law_46 16 rfl rfl)
theorem dL_law_1282 : decode cL_law 1282 = .ok (.invokevirtual 143, 3) := dk_182 0 143 (dk_at dksL_law_46 17 rfl rfl)
theorem dL_law_1285 : decode cL_law 1285 = .ok (.if_icmp .eq 707, 3) := dk_159 2 195 (dk_at dksL_law_46 20 rfl rfl)
theorem dL_law_1288 : decode cL_law 1288 = .ok (.iconst 0, 1) := dk_3 (dk_at dksL_law_46 23 rfl rfl)
theorem dL_law_1289 : decode cL_law 1289 = .ok (.ireturn, 1) := dk_172 (dk_at dksL_law_47 0 rfl rfl)
theorem dL_law_1290 : decode cL_law 1290 = .ok (.aload_n 1, 1) := dk_43 (dk_at dksL_law_47 1 rfl rfl)
theorem dL_law_1291 : decode cL_law 1291 = .ok (.aload_n 0, 1) := dk_42 (dk_at dksL_law_47 2 rfl rfl)
theorem dL_law_1292 : decode cL_law 1292 = .ok (.iload 4, 2) := dk_21 4 (dk_at dksL_law_47 3 rfl rfl)
theorem dL_law_1294 : decode cL_law 1294 = .ok (.iconst 1, 1) := dk_4 (dk_at dksL_law_47 5 rfl rfl)
theorem dL_law_1295 : decode cL_law 1295 = .ok (.iadd, 1) := dk_96 (dk_at dksL_law_47 6 rfl rfl)
theorem dL_law_1296 : decode cL_law 1296 = .ok (.iaload, 1) := dk_46 (dk_at dksL_law_47 7 rfl rfl)
theorem dL_law_1297 : decode cL_law 1297 = .ok (.aload_n 0, 1) := dk_42 (dk_at dksL_law_47 8 rfl rfl)
theorem dL_law_1298 : decode cL_law 1298 = .ok (.iload 4, 2) := dk_21 4 (dk_at dksL_law_47 9 rfl rfl)
theorem dL_law_1300 : decode cL_law 1300 = .ok (.iconst 2, 1) := dk_5 (dk_at dksL_law_47 11 rfl rfl)
theorem dL_law_1301 : decode cL_law 1301 = .ok (.iadd, 1) := dk_96 (dk_at dksL_law_47 12 rfl rfl)
theorem dL_law_1302 : decode cL_law 1302 = .ok (.iaload, 1) := dk_46 (dk_at dksL_law_47 13 rfl rfl)
theorem dL_law_1303 : decode cL_law 1303 = .ok (.aload_n 0, 1) := dk_42 (dk_at dksL_law_47 14 rfl rfl)
theorem dL_law_1304 : decode cL_law 1304 = .ok (.iload 4, 2) := dk_21 4 (dk_at dksL_law_47 15 rfl rfl)
theorem dL_law_1306 : decode cL_law 1306 = .ok (.iconst 3, 1) := dk_6 (dk_at dksL_law_47 17 rfl rfl)
theorem dL_law_1307 : decode cL_law 1307 = .ok (.iadd, 1) := dk_96 (dk_at dksL_law_47 18 rfl rfl)
theorem dL_law_1308 : decode cL_law 1308 = .ok (.iaload, 1) := dk_46 (dk_at dksL_law_47 19 rfl rfl)
theorem dL_law_1309 : decode cL_law 1309 = .ok (.invokevirtual 144, 3) := dk_182 0 144 (dk_at dksL_law_47 20 rfl rfl)
theorem dL_law_1312 : decode cL_law 1312 = .ok (.aload_n 2, 1) := dk_44 (dk_at dksL_law_47 23 rfl rfl)
theorem dL_law_1313 : decode cL_law 1313 = .ok (.aload_n 0, 1) := dk_42 (dk_at dksL_law_48 0 rfl rfl)
theorem dL_law_1314 : decode cL_law 1314 = .ok (.iload 4, 2) := dk_21 4 (dk_at dksL_law_48 1 rfl rfl)
theorem dL_law_1316 : decode cL_law 1316 = .ok (.iconst 1, 1) := dk_4 (dk_at dksL_law_48 3 rfl rfl)
theorem dL_law_1317 : decode cL_law 1317 = .ok (.iadd, 1) := dk_96 (dk_at dksL_law_48 4 rfl rfl)
theorem dL_law_1318 : decode cL_law 1318 = .ok (.iaload, 1) := dk_46 (dk_at dksL_law_48 5 rfl rfl)
theorem dL_law_1319 : decode cL_law 1319 = .ok (.aload_n 0, 1) := dk_42 (dk_at dksL_law_48 6 rfl rfl)
theorem dL_law_1320 : decode cL_law 1320 = .ok (.iload 4, 2) := dk_21 4 (dk_at dksL_law_48 7 rfl rfl)
theorem dL_law_1322 : decode cL_law 1322 = .ok (.iconst 2, 1) := dk_5 (dk_at dksL_law_48 9 rfl rfl)
theorem dL_law_1323 : decode cL_law 1323 = .ok (.iadd, 1) := dk_96 (dk_at dksL_law_48 10 rfl rfl)
theorem dL_law_1324 : decode cL_law 1324 = .ok (.iaload, 1) := dk_46 (dk_at dksL_law_48 11 rfl rfl)
theorem dL_law_1325 : decode cL_law 1325 = .ok (.aload_n 0, 1) := dk_42 (dk_at dksL_law_48 12 rfl rfl)
theorem dL_law_1326 : decode cL_law 1326 = .ok (.iload 4, 2) := dk_21 4 (dk_at dksL_law_48 13 rfl rfl)
theorem dL_law_1328 : decode cL_law 1328 = .ok (.iconst 3, 1) := dk_6 (dk_at dksL_law_48 15 rfl rfl)
theorem dL_law_1329 : decode cL_law 1329 = .ok (.iadd, 1) := dk_96 (dk_at dksL_law_48 16 rfl rfl)
theorem dL_law_1330 : decode cL_law 1330 = .ok (.iaload, 1) := dk_46 (dk_at dksL_law_48 17 rfl rfl)
theorem dL_law_1331 : decode cL_law 1331 = .ok (.invokevirtual 147, 3) := dk_182 0 147 (dk_at dksL_law_48 18 rfl rfl)
theorem dL_law_1334 : decode cL_law 1334 = .ok (.if_icmp .eq 658, 3) := dk_159 2 146 (dk_at dksL_law_48 21 rfl rfl)
theorem dL_law_1337 : decode cL_law 1337 = .ok (.iconst 0, 1) := dk_3 (dk_at dksL_law_49 0 rfl rfl)
theorem dL_law_1338 : decode cL_law 1338 = .ok (.ireturn, 1) := dk_172 (dk_at dksL_law_49 1 rfl rfl)
theorem dL_law_1339 : decode cL_law 1339 = .ok (.aload_n 1, 1) := dk_43 (dk_at dksL_law_49 2 rfl rfl)
theorem dL_law_1340 : decode cL_law 1340 = .ok (.aload_n 0, 1) := dk_42 (dk_at dksL_law_49 3 rfl rfl)
theorem dL_law_1341 : decode cL_law 1341 = .ok (.iload 4, 2) := dk_21 4 (dk_at dksL_law_49 4 rfl rfl)
theorem dL_law_1343 : decode cL_law 1343 = .ok (.iconst 1, 1) := dk_4 (dk_at dksL_law_49 6 rfl rfl)
theorem dL_law_1344 : decode cL_law 1344 = .ok (.iadd, 1) := dk_96 (dk_at dksL_law_49 7 rfl rfl)
theorem dL_law_1345 : decode cL_law 1345 = .ok (.iaload, 1) := dk_46 (dk_at dksL_law_49 8 rfl rfl)
theorem dL_law_1346 : decode cL_law 1346 = .ok (.aload_n 0, 1) := dk_42 (dk_at dksL_law_49 9 rfl rfl)
theorem dL_law_1347 : decode cL_law 1347 = .ok (.iload 4, 2) := dk_21 4 (dk_at dksL_law_49 10 rfl rfl)
theorem dL_law_1349 : decode cL_law 1349 = .ok (.iconst 2, 1) := dk_5 (dk_at dksL_law_49 12 rfl rfl)
theorem dL_law_1350 : decode cL_law 1350 = .ok (.iadd, 1) := dk_96 (dk_at dksL_law_49 13 rfl rfl)
theorem dL_law_1351 : decode cL_law 1351 = .ok (.iaload, 1) := dk_46 (dk_at dksL_law_49 14 rfl rfl)
theorem dL_law_1352 : decode cL_law 1352 = .ok (.invokevirtual 148, 3) := dk_182 0 148 (dk_at dksL_law_49 15 rfl rfl)
theorem dL_law_1355 : decode cL_law 1355 = .ok (.aload_n 2, 1) := dk_44 (dk_at dksL_law_49 18 rfl rfl)
theorem dL_law_1356 : decode cL_law 1356 = .ok (.aload_n 0, 1) := dk_42 (dk_at dksL_law_49 19 rfl rfl)
theorem dL_law_1357 : decode cL_law 1357 = .ok (.iload 4, 2) := dk_21 4 (dk_at dksL_law_49 20 rfl rfl)
theorem dL_law_1359 : decode cL_law 1359 = .ok (.iconst 1, 1) := dk_4 (dk_at dksL_law_49 22 rfl rfl)
theorem dL_law_1360 : decode cL_law 1360 = .ok (.iadd, 1) := dk_96 (dk_at dksL_law_49 23 rfl rfl)
theorem dL_law_1361 : decode cL_law 1361 = .ok (.iaload, 1) := dk_46 (dk_at dksL_law_50 0 rfl rfl)
theorem dL_law_1362 : decode cL_law 1362 = .ok (.aload_n 0, 1) := dk_42 (dk_at dksL_law_50 1 rfl rfl)
theorem dL_law_1363 : decode cL_law 1363 = .ok (.iload 4, 2) := dk_21 4 (dk_at dksL_law_50 2 rfl rfl)
theorem dL_law_1365 : decode cL_law 1365 = .ok (.iconst 2, 1) := dk_5 (dk_at dksL_law_50 4 rfl rfl)
theorem dL_law_1366 : decode cL_law 1366 = .ok (.iadd, 1) := dk_96 (dk_at dksL_law_50 5 rfl rfl)
theorem dL_law_1367 : decode cL_law 1367 = .ok (.iaload, 1) := dk_46 (dk_at dksL_law_50 6 rfl rfl)
theorem dL_law_1368 : decode cL_law 1368 = .ok (.invokevirtual 151, 3) := dk_182 0 151 (dk_at dksL_law_50 7 rfl rfl)
theorem dL_law_1371 : decode cL_law 1371 = .ok (.if_icmp .eq 621, 3) := dk_159 2 109 (dk_at dksL_law_50 10 rfl rfl)
theorem dL_law_1374 : decode cL_law 1374 = .ok (.iconst 0, 1) := dk_3 (dk_at dksL_law_50 13 rfl rfl)
theorem dL_law_1375 : decode cL_law 1375 = .ok (.ireturn, 1) := dk_172 (dk_at dksL_law_50 14 rfl rfl)
theorem dL_law_1376 : decode cL_law 1376 = .ok (.aload_n 1, 1) := dk_43 (dk_at dksL_law_50 15 rfl rfl)
theorem dL_law_1377 : decode cL_law 1377 = .ok (.aload_n 0, 1) := dk_42 (dk_at dksL_law_50 16 rfl rfl)
theorem dL_law_1378 : decode cL_law 1378 = .ok (.iload 4, 2) := dk_21 4 (dk_at dksL_law_50 17 rfl rfl)
theorem dL_law_1380 : decode cL_law 1380 = .ok (.iconst 1, 1) := dk_4 (dk_at dksL_law_50 19 rfl rfl)
theorem dL_law_1381 : decode cL_law 1381 = .ok (.iadd, 1) := dk_96 (dk_at dksL_law_50 20 rfl rfl)
theorem dL_law_1382 : decode cL_law 1382 = .ok (.iaload, 1) := dk_46 (dk_at dksL_law_50 21 rfl rfl)
theorem dL_law_1383 : decode cL_law 1383 = .ok (.invokevirtual 152, 3) := dk_182 0 152 (dk_at dksL_law_51 0 rfl rfl)
theorem dL_law_1386 : decode cL_law 1386 = .ok (.aload_n 2, 1) := dk_44 (dk_at dksL_law_51 3 rfl rfl)
theorem dL_law_1387 : decode cL_law 1387 = .ok (.aload_n 0, 1) := dk_42 (dk_at dksL_law_51 4 rfl rfl)
theorem dL_law_1388 : decode cL_law 1388 = .ok (.iload 4, 2) := dk_21 4 (dk_at dksL_law_51 5 rfl rfl)
theorem dL_law_1390 : decode cL_law 1390 = .ok (.iconst 1, 1) := dk_4 (dk_at dksL_law_51 7 rfl rfl)
theorem dL_law_1391 : decode cL_law 1391 = .ok (.iadd, 1) := dk_96 (dk_at dksL_law_51 8 rfl rfl)
theorem dL_law_1392 : decode cL_law 1392 = .ok (.iaload, 1) := dk_46 (dk_at dksL_law_51 9 rfl rfl)
theorem dL_law_1393 : decode cL_law 1393 = .ok (.invokevirtual 155, 3) := dk_182 0 155 (dk_at dksL_law_51 10 rfl rfl)
theorem dL_law_1396 : decode cL_law 1396 = .ok (.if_icmp .eq 596, 3) := dk_159 2 84 (dk_at dksL_law_51 13 rfl rfl)
theorem dL_law_1399 : decode cL_law 1399 = .ok (.iconst 0, 1) := dk_3 (dk_at dksL_law_51 16 rfl rfl)
theorem dL_law_1400 : decode cL_law 1400 = .ok (.ireturn, 1) := dk_172 (dk_at dksL_law_51 17 rfl rfl)
theorem dL_law_1401 : decode cL_law 1401 = .ok (.aload_n 1, 1) := dk_43 (dk_at dksL_law_51 18 rfl rfl)
theorem dL_law_1402 : decode cL_law 1402 = .ok (.aload_n 0, 1) := dk_42 (dk_at dksL_law_51 19 rfl rfl)
theorem dL_law_1403 : decode cL_law 1403 = .ok (.iload 4, 2) := dk_21 4 (dk_at dksL_law_51 20 rfl rfl)
theorem dL_law_1405 : decode cL_law 1405 = .ok (.iconst 1, 1) := dk_4 (dk_at dksL_law_51 22 rfl rfl)
theorem dL_law_1406 : decode cL_law 1406 = .ok (.iadd, 1) := dk_96 (dk_at dksL_law_51 23 rfl rfl)
theorem dL_law_1407 : decode cL_law 1407 = .ok (.iaload, 1) := dk_46 (dk_at dksL_law_52 0 rfl rfl)
theorem dL_law_1408 : decode cL_law 1408 = .ok (.aload_n 0, 1) := dk_42 (dk_at dksL_law_52 1 rfl rfl)
theorem dL_law_1409 : decode cL_law 1409 = .ok (.iload 4, 2) := dk_21 4 (dk_at dksL_law_52 2 rfl rfl)
theorem dL_law_1411 : decode cL_law 1411 = .ok (.iconst 2, 1) := dk_5 (dk_at dksL_law_52 4 rfl rfl)
theorem dL_law_1412 : decode cL_law 1412 = .ok (.iadd, 1) := dk_96 (dk_at dksL_law_52 5 rfl rfl)
theorem dL_law_1413 : decode cL_law 1413 = .ok (.iaload, 1) := dk_46 (dk_at dksL_law_52 6 rfl rfl)
theorem dL_law_1414 : decode cL_law 1414 = .ok (.invokevirtual 156, 3) := dk_182 0 156 (dk_at dksL_law_52 7 rfl rfl)
theorem dL_law_1417 : decode cL_law 1417 = .ok (.aload_n 2, 1) := dk_44 (dk_at dksL_law_52 10 rfl rfl)
theorem dL_law_1418 : decode cL_law 1418 = .ok (.aload_n 0, 1) := dk_42 (dk_at dksL_law_52 11 rfl rfl)
theorem dL_law_1419 : decode cL_law 1419 = .ok (.iload 4, 2) := dk_21 4 (dk_at dksL_law_52 12 rfl rfl)
theorem dL_law_1421 : decode cL_law 1421 = .ok (.iconst 1, 1) := dk_4 (dk_at dksL_law_52 14 rfl rfl)
theorem dL_law_1422 : decode cL_law 1422 = .ok (.iadd, 1) := dk_96 (dk_at dksL_law_52 15 rfl rfl)
theorem dL_law_1423 : decode cL_law 1423 = .ok (.iaload, 1) := dk_46 (dk_at dksL_law_52 16 rfl rfl)
theorem dL_law_1424 : decode cL_law 1424 = .ok (.aload_n 0, 1) := dk_42 (dk_at dksL_law_52 17 rfl rfl)
theorem dL_law_1425 : decode cL_law 1425 = .ok (.iload 4, 2) := dk_21 4 (dk_at dksL_law_52 18 rfl rfl)
theorem dL_law_1427 : decode cL_law 1427 = .ok (.iconst 2, 1) := dk_5 (dk_at dksL_law_52 20 rfl rfl)
theorem dL_law_1428 : decode cL_law 1428 = .ok (.iadd, 1) := dk_96 (dk_at dksL_law_52 21 rfl rfl)
theorem dL_law_1429 : decode cL_law 1429 = .ok (.iaload, 1) := dk_46 (dk_at dksL_law_52 22 rfl rfl)
theorem dL_law_1430 : decode cL_law 1430 = .ok (.invokevirtual 159, 3) := dk_182 0 159 (dk_at dksL_law_53 0 rfl rfl)
theorem dL_law_1433 : decode cL_law 1433 = .ok (.if_icmp .eq 559, 3) := dk_159 2 47 (dk_at dksL_law_53 3 rfl rfl)
theorem dL_law_1436 : decode cL_law 1436 = .ok (.iconst 0, 1) := dk_3 (dk_at dksL_law_53 6 rfl rfl)
theorem dL_law_1437 : decode cL_law 1437 = .ok (.ireturn, 1) := dk_172 (dk_at dksL_law_53 7 rfl rfl)
theorem dL_law_1438 : decode cL_law 1438 = .ok (.aload_n 1, 1) := dk_43 (dk_at dksL_law_53 8 rfl rfl)
theorem dL_law_1439 : decode cL_law 1439 = .ok (.aload_n 0, 1) := dk_42 (dk_at dksL_law_53 9 rfl rfl)
theorem dL_law_1440 : decode cL_law 1440 = .ok (.iload 4, 2) := dk_21 4 (dk_at dksL_law_53 10 rfl rfl)
theorem dL_law_1442 : decode cL_law 1442 = .ok (.iconst 1, 1) := dk_4 (dk_at dksL_law_53 12 rfl rfl)
theorem dL_law_1443 : decode cL_law 1443 = .ok (.iadd, 1) := dk_96 (dk_at dksL_law_53 13 rfl rfl)
theorem dL_law_1444 : decode cL_law 1444 = .ok (.iaload, 1) := dk_46 (dk_at dksL_law_53 14 rfl rfl)
theorem dL_law_1445 : decode cL_law 1445 = .ok (.invokevirtual 160, 3) := dk_182 0 160 (dk_at dksL_law_53 15 rfl rfl)
theorem dL_law_1448 : decode cL_law 1448 = .ok (.aload_n 2, 1) := dk_44 (dk_at dksL_law_53 18 rfl rfl)
theorem dL_law_1449 : decode cL_law 1449 = .ok (.aload_n 0, 1) := dk_42 (dk_at dksL_law_53 19 rfl rfl)
theorem dL_law_1450 : decode cL_law 1450 = .ok (.iload 4, 2) := dk_21 4 (dk_at dksL_law_53 20 rfl rfl)
theorem dL_law_1452 : decode cL_law 1452 = .ok (.iconst 1, 1) := dk_4 (dk_at dksL_law_53 22 rfl rfl)
theorem dL_law_1453 : decode cL_law 1453 = .ok (.iadd, 1) := dk_96 (dk_at dksL_law_53 23 rfl rfl)
theorem dL_law_1454 : decode cL_law 1454 = .ok (.iaload, 1) := dk_46 (dk_at dksL_law_54 0 rfl rfl)
theorem dL_law_1455 : decode cL_law 1455 = .ok (.invokevirtual 163, 3) := dk_182 0 163 (dk_at dksL_law_54 1 rfl rfl)
theorem dL_law_1458 : decode cL_law 1458 = .ok (.if_icmp .eq 534, 3) := dk_159 2 22 (dk_at dksL_law_54 4 rfl rfl)
theorem dL_law_1461 : decode cL_law 1461 = .ok (.iconst 0, 1) := dk_3 (dk_at dksL_law_54 7 rfl rfl)
theorem dL_law_1462 : decode cL_law 1462 = .ok (.ireturn, 1) := dk_172 (dk_at dksL_law_54 8 rfl rfl)
theorem dL_law_1463 : decode cL_law 1463 = .ok (.aload_n 1, 1) := dk_43 (dk_at dksL_law_54 9 rfl rfl)
theorem dL_law_1464 : decode cL_law 1464 = .ok (.aload_n 0, 1) := dk_42 (dk_at dksL_law_54 10 rfl rfl)
theorem dL_law_1465 : decode cL_law 1465 = .ok (.iload 4, 2) := dk_21 4 (dk_at dksL_law_54 11 rfl rfl)
theorem dL_law_1467 : decode cL_law 1467 = .ok (.iconst 1, 1) := dk_4 (dk_at dksL_law_54 13 rfl rfl)
theorem dL_law_1468 : decode cL_law 1468 = .ok (.iadd, 1) := dk_96 (dk_at dksL_law_54 14 rfl rfl)
theorem dL_law_1469 : decode cL_law 1469 = .ok (.iaload, 1) := dk_46 (dk_at dksL_law_54 15 rfl rfl)
theorem dL_law_1470 : decode cL_law 1470 = .ok (.aload_n 0, 1) := dk_42 (dk_at dksL_law_54 16 rfl rfl)
theorem dL_law_1471 : decode cL_law 1471 = .ok (.iload 4, 2) := dk_21 4 (dk_at dksL_law_54 17 rfl rfl)
theorem dL_law_1473 : decode cL_law 1473 = .ok (.iconst 2, 1) := dk_5 (dk_at dksL_law_54 19 rfl rfl)
theorem dL_law_1474 : decode cL_law 1474 = .ok (.iadd, 1) := dk_96 (dk_at dksL_law_54 20 rfl rfl)
theorem dL_law_1475 : decode cL_law 1475 = .ok (.iaload, 1) := dk_46 (dk_at dksL_law_54 21 rfl rfl)
theorem dL_law_1476 : decode cL_law 1476 = .ok (.aload_n 0, 1) := dk_42 (dk_at dksL_law_54 22 rfl rfl)
theorem dL_law_1477 : decode cL_law 1477 = .ok (.iload 4, 2) := dk_21 4 (dk_at dksL_law_55 0 rfl rfl)
theorem dL_law_1479 : decode cL_law 1479 = .ok (.iconst 3, 1) := dk_6 (dk_at dksL_law_55 2 rfl rfl)
theorem dL_law_1480 : decode cL_law 1480 = .ok (.iadd, 1) := dk_96 (dk_at dksL_law_55 3 rfl rfl)
theorem dL_law_1481 : decode cL_law 1481 = .ok (.iaload, 1) := dk_46 (dk_at dksL_law_55 4 rfl rfl)
theorem dL_law_1482 : decode cL_law 1482 = .ok (.invokevirtual 164, 3) := dk_182 0 164 (dk_at dksL_law_55 5 rfl rfl)
theorem dL_law_1485 : decode cL_law 1485 = .ok (.aload_n 2, 1) := dk_44 (dk_at dksL_law_55 8 rfl rfl)
theorem dL_law_1486 : decode cL_law 1486 = .ok (.aload_n 0, 1) := dk_42 (dk_at dksL_law_55 9 rfl rfl)
theorem dL_law_1487 : decode cL_law 1487 = .ok (.iload 4, 2) := dk_21 4 (dk_at dksL_law_55 10 rfl rfl)
theorem dL_law_1489 : decode cL_law 1489 = .ok (.iconst 1, 1) := dk_4 (dk_at dksL_law_55 12 rfl rfl)
theorem dL_law_1490 : decode cL_law 1490 = .ok (.iadd, 1) := dk_96 (dk_at dksL_law_55 13 rfl rfl)
theorem dL_law_1491 : decode cL_law 1491 = .ok (.iaload, 1) := dk_46 (dk_at dksL_law_55 14 rfl rfl)
theorem dL_law_1492 : decode cL_law 1492 = .ok (.aload_n 0, 1) := dk_42 (dk_at dksL_law_55 15 rfl rfl)
theorem dL_law_1493 : decode cL_law 1493 = .ok (.iload 4, 2) := dk_21 4 (dk_at dksL_law_55 16 rfl rfl)
theorem dL_law_1495 : decode cL_law 1495 = .ok (.iconst 2, 1) := dk_5 (dk_at dksL_law_55 18 rfl rfl)
theorem dL_law_1496 : decode cL_law 1496 = .ok (.iadd, 1) := dk_96 (dk_at dksL_law_55 19 rfl rfl)
theorem dL_law_1497 : decode cL_law 1497 = .ok (.iaload, 1) := dk_46 (dk_at dksL_law_55 20 rfl rfl)
theorem dL_law_1498 : decode cL_law 1498 = .ok (.aload_n 0, 1) := dk_42 (dk_at dksL_law_55 21 rfl rfl)
theorem dL_law_1499 : decode cL_law 1499 = .ok (.iload 4, 2) := dk_21 4 (dk_at dksL_law_55 22 rfl rfl)
theorem dL_law_1501 : decode cL_law 1501 = .ok (.iconst 3, 1) := dk_6 (dk_at dksL_law_56 0 rfl rfl)
theorem dL_law_1502 : decode cL_law 1502 = .ok (.iadd, 1) := dk_96 (dk_at dksL_law_56 1 rfl rfl)
theorem dL_law_1503 : decode cL_law 1503 = .ok (.iaload, 1) := dk_46 (dk_at dksL_law_56 2 rfl rfl)
theorem dL_law_1504 : decode cL_law 1504 = .ok (.invokevirtual 167, 3) := dk_182 0 167 (dk_at dksL_law_56 3 rfl rfl)
theorem dL_law_1507 : decode cL_law 1507 = .ok (.if_icmp .eq 485, 3) := dk_159 1 229 (dk_at dksL_law_56 6 rfl rfl)
theorem dL_law_1510 : decode cL_law 1510 = .ok (.iconst 0, 1) := dk_3 (dk_at dksL_law_56 9 rfl rfl)
theorem dL_law_1511 : decode cL_law 1511 = .ok (.ireturn, 1) := dk_172 (dk_at dksL_law_56 10 rfl rfl)
theorem dL_law_1512 : decode cL_law 1512 = .ok (.aload_n 1, 1) := dk_43 (dk_at dksL_law_56 11 rfl rfl)
theorem dL_law_1513 : decode cL_law 1513 = .ok (.aload_n 0, 1) := dk_42 (dk_at dksL_law_56 12 rfl rfl)
theorem dL_law_1514 : decode cL_law 1514 = .ok (.iload 4, 2) := dk_21 4 (dk_at dksL_law_56 13 rfl rfl)
theorem dL_law_1516 : decode cL_law 1516 = .ok (.iconst 1, 1) := dk_4 (dk_at dksL_law_56 15 rfl rfl)
theorem dL_law_1517 : decode cL_law 1517 = .ok (.iadd, 1) := dk_96 (dk_at dksL_law_56 16 rfl rfl)
theorem dL_law_1518 : decode cL_law 1518 = .ok (.iaload, 1) := dk_46 (dk_at dksL_law_56 17 rfl rfl)
theorem dL_law_1519 : decode cL_law 1519 = .ok (.aload_n 0, 1) := dk_42 (dk_at dksL_law_56 18 rfl rfl)
theorem dL_law_1520 : decode cL_law 1520 = .ok (.iload 4, 2) := dk_21 4 (dk_at dksL_law_56 19 rfl rfl)
theorem dL_law_1522 : decode cL_law 1522 = .ok (.iconst 2, 1) := dk_5 (dk_at dksL_law_56 21 rfl rfl)
theorem dL_law_1523 : decode cL_law 1523 = .ok (.iadd, 1) := dk_96 (dk_at dksL_law_56 22 rfl rfl)
theorem dL_law_1524 : decode cL_law 1524 = .ok (.iaload, 1) := dk_46 (dk_at dksL_law_56 23 rfl rfl)
theorem dL_law_1525 : decode cL_law 1525 = .ok (.invokevirtual 168, 3) := dk_182 0 168 (dk_at dksL_law_57 0 rfl rfl)
theorem dL_law_1528 : decode cL_law 1528 = .ok (.aload_n 2, 1) := dk_44 (dk_at dksL_law_57 3 rfl rfl)
theorem dL_law_1529 : decode cL_law 1529 = .ok (.aload_n 0, 1) := dk_42 (dk_at dksL_law_57 4 rfl rfl)
theorem dL_law_1530 : decode cL_law 1530 = .ok (.iload 4, 2) := dk_21 4 (dk_at dksL_law_57 5 rfl rfl)
theorem dL_law_1532 : decode cL_law 1532 = .ok (.iconst 1, 1) := dk_4 (dk_at dksL_law_57 7 rfl rfl)
theorem dL_law_1533 : decode cL_law 1533 = .ok (.iadd, 1) := dk_96 (dk_at dksL_law_57 8 rfl rfl)
theorem dL_law_1534 : decode cL_law 1534 = .ok (.iaload, 1) := dk_46 (dk_at dksL_law_57 9 rfl rfl)
theorem dL_law_1535 : decode cL_law 1535 = .ok (.aload_n 0, 1) := dk_42 (dk_at dksL_law_57 10 rfl rfl)
theorem dL_law_1536 : decode cL_law 1536 = .ok (.iload 4, 2) := dk_21 4 (dk_at dksL_law_57 11 rfl rfl)
theorem dL_law_1538 : decode cL_law 1538 = .ok (.iconst 2, 1) := dk_5 (dk_at dksL_law_57 13 rfl rfl)
theorem dL_law_1539 : decode cL_law 1539 = .ok (.iadd, 1) := dk_96 (dk_at dksL_law_57 14 rfl rfl)
theorem dL_law_1540 : decode cL_law 1540 = .ok (.iaload, 1) := dk_46 (dk_at dksL_law_57 15 rfl rfl)
theorem dL_law_1541 : decode cL_law 1541 = .ok (.invokevirtual 171, 3) := dk_182 0 171 (dk_at dksL_law_57 16 rfl rfl)
theorem dL_law_1544 : decode cL_law 1544 = .ok (.if_icmp .eq 448, 3) := dk_159 1 192 (dk_at dksL_law_57 19 rfl rfl)
theorem dL_law_1547 : decode cL_law 1547 = .ok (.iconst 0, 1) := dk_3 (dk_at dksL_law_57 22 rfl rfl)
theorem dL_law_1548 : decode cL_law 1548 = .ok (.ireturn, 1) := dk_172 (dk_at dksL_law_57 23 rfl rfl)
theorem dL_law_1549 : decode cL_law 1549 = .ok (.aload_n 1, 1) := dk_43 (dk_at dksL_law_58 0 rfl rfl)
theorem dL_law_1550 : decode cL_law 1550 = .ok (.aload_n 0, 1) := dk_42 (dk_at dksL_law_58 1 rfl rfl)
theorem dL_law_1551 : decode cL_law 1551 = .ok (.iload 4, 2) := dk_21 4 (dk_at dksL_law_58 2 rfl rfl)
theorem dL_law_1553 : decode cL_law 1553 = .ok (.iconst 1, 1) := dk_4 (dk_at dksL_law_58 4 rfl rfl)
theorem dL_law_1554 : decode cL_law 1554 = .ok (.iadd, 1) := dk_96 (dk_at dksL_law_58 5 rfl rfl)
theorem dL_law_1555 : decode cL_law 1555 = .ok (.iaload, 1) := dk_46 (dk_at dksL_law_58 6 rfl rfl)
theorem dL_law_1556 : decode cL_law 1556 = .ok (.aload_n 0, 1) := dk_42 (dk_at dksL_law_58 7 rfl rfl)
theorem dL_law_1557 : decode cL_law 1557 = .ok (.iload 4, 2) := dk_21 4 (dk_at dksL_law_58 8 rfl rfl)
theorem dL_law_1559 : decode cL_law 1559 = .ok (.iconst 2, 1) := dk_5 (dk_at dksL_law_58 10 rfl rfl)
theorem dL_law_1560 : decode cL_law 1560 = .ok (.iadd, 1) := dk_96 (dk_at dksL_law_58 11 rfl rfl)
theorem dL_law_1561 : decode cL_law 1561 = .ok (.iaload, 1) := dk_46 (dk_at dksL_law_58 12 rfl rfl)
theorem dL_law_1562 : decode cL_law 1562 = .ok (.aload_n 0, 1) := dk_42 (dk_at dksL_law_58 13 rfl rfl)
theorem dL_law_1563 : decode cL_law 1563 = .ok (.iload 4, 2) := dk_21 4 (dk_at dksL_law_58 14 rfl rfl)
theorem dL_law_1565 : decode cL_law 1565 = .ok (.iconst 3, 1) := dk_6 (dk_at dksL_law_58 16 rfl rfl)
theorem dL_law_1566 : decode cL_law 1566 = .ok (.iadd, 1) := dk_96 (dk_at dksL_law_58 17 rfl rfl)
theorem dL_law_1567 : decode cL_law 1567 = .ok (.iaload, 1) := dk_46 (dk_at dksL_law_58 18 rfl rfl)
theorem dL_law_1568 : decode cL_law 1568 = .ok (.invokevirtual 172, 3) := dk_182 0 172 (dk_at dksL_law_58 19 rfl rfl)
theorem dL_law_1571 : decode cL_law 1571 = .ok (.aload_n 2, 1) := dk_44 (dk_at dksL_law_58 22 rfl rfl)
theorem dL_law_1572 : decode cL_law 1572 = .ok (.aload_n 0, 1) := dk_42 (dk_at dksL_law_58 23 rfl rfl)
theorem dL_law_1573 : decode cL_law 1573 = .ok (.iload 4, 2) := dk_21 4 (dk_at dksL_law_59 0 rfl rfl)
theorem dL_law_1575 : decode cL_law 1575 = .ok (.iconst 1, 1) := dk_4 (dk_at dksL_law_59 2 rfl rfl)
theorem dL_law_1576 : decode cL_law 1576 = .ok (.iadd, 1) := dk_96 (dk_at dksL_law_59 3 rfl rfl)
theorem dL_law_1577 : decode cL_law 1577 = .ok (.iaload, 1) := dk_46 (dk_at dksL_law_59 4 rfl rfl)
theorem dL_law_1578 : decode cL_law 1578 = .ok (.aload_n 0, 1) := dk_42 (dk_at dksL_law_59 5 rfl rfl)
theorem dL_law_1579 : decode cL_law 1579 = .ok (.iload 4, 2) := dk_21 4 (dk_at dksL_law_59 6 rfl rfl)
theorem dL_law_1581 : decode cL_law 1581 = .ok (.iconst 2, 1) := dk_5 (dk_at dksL_law_59 8 rfl rfl)
theorem dL_law_1582 : decode cL_law 1582 = .ok (.iadd, 1) := dk_96 (dk_at dksL_law_59 9 rfl rfl)
theorem dL_law_1583 : decode cL_law 1583 = .ok (.iaload, 1) := dk_46 (dk_at dksL_law_59 10 rfl rfl)
theorem dL_law_1584 : decode cL_law 1584 = .ok (.aload_n 0, 1) := dk_42 (dk_at dksL_law_59 11 rfl rfl)
theorem dL_law_1585 : decode cL_law 1585 = .ok (.iload 4, 2) := dk_21 4 (dk_at dksL_law_59 12 rfl rfl)
theorem dL_law_1587 : decode cL_law 1587 = .ok (.iconst 3, 1) := dk_6 (dk_at dksL_law_59 14 rfl rfl)
theorem dL_law_1588 : decode cL_law 1588 = .ok (.iadd, 1) := dk_96 (dk_at dksL_law_59 15 rfl rfl)
theorem dL_law_1589 : decode cL_law 1589 = .ok (.iaload, 1) := dk_46 (dk_at dksL_law_59 16 rfl rfl)
theorem dL_law_1590 : decode cL_law 1590 = .ok (.invokevirtual 175, 3) := dk_182 0 175 (dk_at dksL_law_59 17 rfl rfl)
theorem dL_law_1593 : decode cL_law 1593 = .ok (.if_icmp .eq 399, 3) := dk_159 1 143 (dk_at dksL_law_59 20 rfl rfl)
theorem dL_law_1596 : decode cL_law 1596 = .ok (.iconst 0, 1) := dk_3 (dk_at dksL_law_59 23 rfl rfl)
theorem dL_law_1597 : decode cL_law 1597 = .ok (.ireturn, 1) := dk_172 (dk_at dksL_law_60 0 rfl rfl)
theorem dL_law_1598 : decode cL_law 1598 = .ok (.aload_n 1, 1) := dk_43 (dk_at dksL_law_60 1 rfl rfl)
theorem dL_law_1599 : decode cL_law 1599 = .ok (.aload_n 0, 1) := dk_42 (dk_at dksL_law_60 2 rfl rfl)
theorem dL_law_1600 : decode cL_law 1600 = .ok (.iload 4, 2) := dk_21 4 (dk_at dksL_law_60 3 rfl rfl)
theorem dL_law_1602 : decode cL_law 1602 = .ok (.iconst 1, 1) := dk_4 (dk_at dksL_law_60 5 rfl rfl)
theorem dL_law_1603 : decode cL_law 1603 = .ok (.iadd, 1) := dk_96 (dk_at dksL_law_60 6 rfl rfl)
theorem dL_law_1604 : decode cL_law 1604 = .ok (.iaload, 1) := dk_46 (dk_at dksL_law_60 7 rfl rfl)
theorem dL_law_1605 : decode cL_law 1605 = .ok (.aload_n 0, 1) := dk_42 (dk_at dksL_law_60 8 rfl rfl)
theorem dL_law_1606 : decode cL_law 1606 = .ok (.iload 4, 2) := dk_21 4 (dk_at dksL_law_60 9 rfl rfl)
theorem dL_law_1608 : decode cL_law 1608 = .ok (.iconst 2, 1) := dk_5 (dk_at dksL_law_60 11 rfl rfl)
theorem dL_law_1609 : decode cL_law 1609 = .ok (.iadd, 1) := dk_96 (dk_at dksL_law_60 12 rfl rfl)
theorem dL_law_1610 : decode cL_law 1610 = .ok (.iaload, 1) := dk_46 (dk_at dksL_law_60 13 rfl rfl)
theorem dL_law_1611 : decode cL_law 1611 = .ok (.invokevirtual 176, 3) := dk_182 0 176 (dk_at dksL_law_60 14 rfl rfl)
theorem dL_law_1614 : decode cL_law 1614 = .ok (.aload_n 2, 1) := dk_44 (dk_at dksL_law_60 17 rfl rfl)
theorem dL_law_1615 : decode cL_law 1615 = .ok (.aload_n 0, 1) := dk_42 (dk_at dksL_law_60 18 rfl rfl)
theorem dL_law_1616 : decode cL_law 1616 = .ok (.iload 4, 2) := dk_21 4 (dk_at dksL_law_60 19 rfl rfl)
theorem dL_law_1618 : decode cL_law 1618 = .ok (.iconst 1, 1) := dk_4 (dk_at dksL_law_60 21 rfl rfl)
theorem dL_law_1619 : decode cL_law 1619 = .ok (.iadd, 1) := dk_96 (dk_at dksL_law_60 22 rfl rfl)
theorem dL_law_1620 : decode cL_law 1620 = .ok (.iaload, 1) := dk_46 (dk_at dksL_law_60 23 rfl rfl)
theorem dL_law_1621 : decode cL_law 1621 = .ok (.aload_n 0, 1) := dk_42 (dk_at dksL_law_61 0 rfl rfl)
theorem dL_law_1622 : decode cL_law 1622 = .ok (.iload 4, 2) := dk_21 4 (dk_at dksL_law_61 1 rfl rfl)
theorem dL_law_1624 : decode cL_law 1624 = .ok (.iconst 2, 1) := dk_5 (dk_at dksL_law_61 3 rfl rfl)
theorem dL_law_1625 : decode cL_law 1625 = .ok (.iadd, 1) := dk_96 (dk_at dksL_law_61 4 rfl rfl)
theorem dL_law_1626 : decode cL_law 1626 = .ok (.iaload, 1) := dk_46 (dk_at dksL_law_61 5 rfl rfl)
theorem dL_law_1627 : decode cL_law 1627 = .ok (.invokevirtual 179, 3) := dk_182 0 179 (dk_at dksL_law_61 6 rfl rfl)
theorem dL_law_1630 : decode cL_law 1630 = .ok (.if_icmp .eq 362, 3) := dk_159 1 106 (dk_at dksL_law_61 9 rfl rfl)
theorem dL_law_1633 : decode cL_law 1633 = .ok (.iconst 0, 1) := dk_3 (dk_at dksL_law_61 12 rfl rfl)
theorem dL_law_1634 : decode cL_law 1634 = .ok (.ireturn, 1) := dk_172 (dk_at dksL_law_61 13 rfl rfl)
theorem dL_law_1635 : decode cL_law 1635 = .ok (.aload_n 1, 1) := dk_43 (dk_at dksL_law_61 14 rfl rfl)
theorem dL_law_1636 : decode cL_law 1636 = .ok (.aload_n 0, 1) := dk_42 (dk_at dksL_law_61 15 rfl rfl)
theorem dL_law_1637 : decode cL_law 1637 = .ok (.iload 4, 2) := dk_21 4 (dk_at dksL_law_61 16 rfl rfl)
theorem dL_law_1639 : decode cL_law 1639 = .ok (.iconst 1, 1) := dk_4 (dk_at dksL_law_61 18 rfl rfl)
theorem dL_law_1640 : decode cL_law 1640 = .ok (.iadd, 1) := dk_96 (dk_at dksL_law_61 19 rfl rfl)
theorem dL_law_1641 : decode cL_law 1641 = .ok (.iaload, 1) := dk_46 (dk_at dksL_law_61 20 rfl rfl)
theorem dL_law_1642 : decode cL_law 1642 = .ok (.aload_n 0, 1) := dk_42 (dk_at dksL_law_61 21 rfl rfl)
theorem dL_law_1643 : decode cL_law 1643 = .ok (.iload 4, 2) := dk_21 4 (dk_at dksL_law_61 22 rfl rfl)
theorem dL_law_1645 : decode cL_law 1645 = .ok (.iconst 2, 1) := dk_5 (dk_at dksL_law_62 0 rfl rfl)
theorem dL_law_1646 : decode cL_law 1646 = .ok (.iadd, 1) := dk_96 (dk_at dksL_law_62 1 rfl rfl)
theorem dL_law_1647 : decode cL_law 1647 = .ok (.iaload, 1) := dk_46 (dk_at dksL_law_62 2 rfl rfl)
theorem dL_law_1648 : decode cL_law 1648 = .ok (.invokevirtual 180, 3) := dk_182 0 180 (dk_at dksL_law_62 3 rfl rfl)
theorem dL_law_1651 : decode cL_law 1651 = .ok (.aload_n 2, 1) := dk_44 (dk_at dksL_law_62 6 rfl rfl)
theorem dL_law_1652 : decode cL_law 1652 = .ok (.aload_n 0, 1) := dk_42 (dk_at dksL_law_62 7 rfl rfl)
theorem dL_law_1653 : decode cL_law 1653 = .ok (.iload 4, 2) := dk_21 4 (dk_at dksL_law_62 8 rfl rfl)
theorem dL_law_1655 : decode cL_law 1655 = .ok (.iconst 1, 1) := dk_4 (dk_at dksL_law_62 10 rfl rfl)
theorem dL_law_1656 : decode cL_law 1656 = .ok (.iadd, 1) := dk_96 (dk_at dksL_law_62 11 rfl rfl)
theorem dL_law_1657 : decode cL_law 1657 = .ok (.iaload, 1) := dk_46 (dk_at dksL_law_62 12 rfl rfl)
theorem dL_law_1658 : decode cL_law 1658 = .ok (.aload_n 0, 1) := dk_42 (dk_at dksL_law_62 13 rfl rfl)
theorem dL_law_1659 : decode cL_law 1659 = .ok (.iload 4, 2) := dk_21 4 (dk_at dksL_law_62 14 rfl rfl)
theorem dL_law_1661 : decode cL_law 1661 = .ok (.iconst 2, 1) := dk_5 (dk_at dksL_law_62 16 rfl rfl)
theorem dL_law_1662 : decode cL_law 1662 = .ok (.iadd, 1) := dk_96 (dk_at dksL_law_62 17 rfl rfl)
theorem dL_law_1663 : decode cL_law 1663 = .ok (.iaload, 1) := dk_46 (dk_at dksL_law_62 18 rfl rfl)
theorem dL_law_1664 : decode cL_law 1664 = .ok (.invokevirtual 183, 3) := dk_182 0 183 (dk_at dksL_law_62 19 rfl rfl)
theorem dL_law_1667 : decode cL_law 1667 = .ok (.if_icmp .eq 325, 3) := dk_159 1 69 (dk_at dksL_law_63 0 rfl rfl)
theorem dL_law_1670 : decode cL_law 1670 = .ok (.iconst 0, 1) := dk_3 (dk_at dksL_law_63 3 rfl rfl)
theorem dL_law_1671 : decode cL_law 1671 = .ok (.ireturn, 1) := dk_172 (dk_at dksL_law_63 4 rfl rfl)
theorem dL_law_1672 : decode cL_law 1672 = .ok (.aload_n 1, 1) := dk_43 (dk_at dksL_law_63 5 rfl rfl)
theorem dL_law_1673 : decode cL_law 1673 = .ok (.aload_n 0, 1) := dk_42 (dk_at dksL_law_63 6 rfl rfl)
theorem dL_law_1674 : decode cL_law 1674 = .ok (.iload 4, 2) := dk_21 4 (dk_at dksL_law_63 7 rfl rfl)
theorem dL_law_1676 : decode cL_law 1676 = .ok (.iconst 1, 1) := dk_4 (dk_at dksL_law_63 9 rfl rfl)
theorem dL_law_1677 : decode cL_law 1677 = .ok (.iadd, 1) := dk_96 (dk_at dksL_law_63 10 rfl rfl)
theorem dL_law_1678 : decode cL_law 1678 = .ok (.iaload, 1) := dk_46 (dk_at dksL_law_63 11 rfl rfl)
theorem dL_law_1679 : decode cL_law 1679 = .ok (.aload_n 0, 1) := dk_42 (dk_at dksL_law_63 12 rfl rfl)
theorem dL_law_1680 : decode cL_law 1680 = .ok (.iload 4, 2) := dk_21 4 (dk_at dksL_law_63 13 rfl rfl)
theorem dL_law_1682 : decode cL_law 1682 = .ok (.iconst 2, 1) := dk_5 (dk_at dksL_law_63 15 rfl rfl)
theorem dL_law_1683 : decode cL_law 1683 = .ok (.iadd, 1) := dk_96 (dk_at dksL_law_63 16 rfl rfl)
theorem dL_law_1684 : decode cL_law 1684 = .ok (.iaload, 1) := dk_46 (dk_at dksL_law_63 17 rfl rfl)
theorem dL_law_1685 : decode cL_law 1685 = .ok (.invokevirtual 184, 3) := dk_182 0 184 (dk_at dksL_law_63 18 rfl rfl)
theorem dL_law_1688 : decode cL_law 1688 = .ok (.aload_n 2, 1) := dk_44 (dk_at dksL_law_63 21 rfl rfl)
theorem dL_law_1689 : decode cL_law 1689 = .ok (.aload_n 0, 1) := dk_42 (dk_at dksL_law_63 22 rfl rfl)
theorem dL_law_1690 : decode cL_law 1690 = .ok (.iload 4, 2) := dk_21 4 (dk_at dksL_law_64 0 rfl rfl)
theorem dL_law_1692 : decode cL_law 1692 = .ok (.iconst 1, 1) := dk_4 (dk_at dksL_law_64 2 rfl rfl)
theorem dL_law_1693 : decode cL_law 1693 = .ok (.iadd, 1) := dk_96 (dk_at dksL_law_64 3 rfl rfl)
theorem dL_law_1694 : decode cL_law 1694 = .ok (.iaload, 1) := dk_46 (dk_at dksL_law_64 4 rfl rfl)
theorem dL_law_1695 : decode cL_law 1695 = .ok (.aload_n 0, 1) := dk_42 (dk_at dksL_law_64 5 rfl rfl)
theorem dL_law_1696 : decode cL_law 1696 = .ok (.iload 4, 2) := dk_21 4 (dk_at dksL_law_64 6 rfl rfl)
theorem dL_law_1698 : decode cL_law 1698 = .ok (.iconst 2, 1) := dk_5 (dk_at dksL_law_64 8 rfl rfl)
theorem dL_law_1699 : decode cL_law 1699 = .ok (.iadd, 1) := dk_96 (dk_at dksL_law_64 9 rfl rfl)
theorem dL_law_1700 : decode cL_law 1700 = .ok (.iaload, 1) := dk_46 (dk_at dksL_law_64 10 rfl rfl)
theorem dL_law_1701 : decode cL_law 1701 = .ok (.invokevirtual 187, 3) := dk_182 0 187 (dk_at dksL_law_64 11 rfl rfl)
theorem dL_law_1704 : decode cL_law 1704 = .ok (.if_icmp .eq 288, 3) := dk_159 1 32 (dk_at dksL_law_64 14 rfl rfl)
theorem dL_law_1707 : decode cL_law 1707 = .ok (.iconst 0, 1) := dk_3 (dk_at dksL_law_64 17 rfl rfl)
theorem dL_law_1708 : decode cL_law 1708 = .ok (.ireturn, 1) := dk_172 (dk_at dksL_law_64 18 rfl rfl)
theorem dL_law_1709 : decode cL_law 1709 = .ok (.aload_n 1, 1) := dk_43 (dk_at dksL_law_64 19 rfl rfl)
theorem dL_law_1710 : decode cL_law 1710 = .ok (.aload_n 0, 1) := dk_42 (dk_at dksL_law_64 20 rfl rfl)
theorem dL_law_1711 : decode cL_law 1711 = .ok (.iload 4, 2) := dk_21 4 (dk_at dksL_law_64 21 rfl rfl)
theorem dL_law_1713 : decode cL_law 1713 = .ok (.iconst 1, 1) := dk_4 (dk_at dksL_law_64 23 rfl rfl)
theorem dL_law_1714 : decode cL_law 1714 = .ok (.iadd, 1) := dk_96 (dk_at dksL_law_65 0 rfl rfl)
theorem dL_law_1715 : decode cL_law 1715 = .ok (.iaload, 1) := dk_46 (dk_at dksL_law_65 1 rfl rfl)
theorem dL_law_1716 : decode cL_law 1716 = .ok (.aload_n 0, 1) := dk_42 (dk_at dksL_law_65 2 rfl rfl)
theorem dL_law_1717 : decode cL_law 1717 = .ok (.iload 4, 2) := dk_21 4 (dk_at dksL_law_65 3 rfl rfl)
theorem dL_law_1719 : decode cL_law 1719 = .ok (.iconst 2, 1) := dk_5 (dk_at dksL_law_65 5 rfl rfl)
theorem dL_law_1720 : decode cL_law 1720 = .ok (.iadd, 1) := dk_96 (dk_at dksL_law_65 6 rfl rfl)
theorem dL_law_1721 : decode cL_law 1721 = .ok (.iaload, 1) := dk_46 (dk_at dksL_law_65 7 rfl rfl)
theorem dL_law_1722 : decode cL_law 1722 = .ok (.invokevirtual 188, 3) := dk_182 0 188 (dk_at dksL_law_65 8 rfl rfl)
theorem dL_law_1725 : decode cL_law 1725 = .ok (.aload_n 2, 1) := dk_44 (dk_at dksL_law_65 11 rfl rfl)
theorem dL_law_1726 : decode cL_law 1726 = .ok (.aload_n 0, 1) := dk_42 (dk_at dksL_law_65 12 rfl rfl)
theorem dL_law_1727 : decode cL_law 1727 = .ok (.iload 4, 2) := dk_21 4 (dk_at dksL_law_65 13 rfl rfl)
theorem dL_law_1729 : decode cL_law 1729 = .ok (.iconst 1, 1) := dk_4 (dk_at dksL_law_65 15 rfl rfl)
theorem dL_law_1730 : decode cL_law 1730 = .ok (.iadd, 1) := dk_96 (dk_at dksL_law_65 16 rfl rfl)
theorem dL_law_1731 : decode cL_law 1731 = .ok (.iaload, 1) := dk_46 (dk_at dksL_law_65 17 rfl rfl)
theorem dL_law_1732 : decode cL_law 1732 = .ok (.aload_n 0, 1) := dk_42 (dk_at dksL_law_65 18 rfl rfl)
theorem dL_law_1733 : decode cL_law 1733 = .ok (.iload 4, 2) := dk_21 4 (dk_at dksL_law_65 19 rfl rfl)
theorem dL_law_1735 : decode cL_law 1735 = .ok (.iconst 2, 1) := dk_5 (dk_at dksL_law_65 21 rfl rfl)
theorem dL_law_1736 : decode cL_law 1736 = .ok (.iadd, 1) := dk_96 (dk_at dksL_law_65 22 rfl rfl)
theorem dL_law_1737 : decode cL_law 1737 = .ok (.iaload, 1) := dk_46 (dk_at dksL_law_65 23 rfl rfl)
theorem dL_law_1738 : decode cL_law 1738 = .ok (.invokevirtual 191, 3) := dk_182 0 191 (dk_at dksL_law_66 0 rfl rfl)
theorem dL_law_1741 : decode cL_law 1741 = .ok (.if_icmp .eq 251, 3) := dk_159 0 251 (dk_at dksL_law_66 3 rfl rfl)
theorem dL_law_1744 : decode cL_law 1744 = .ok (.iconst 0, 1) := dk_3 (dk_at dksL_law_66 6 rfl rfl)
theorem dL_law_1745 : decode cL_law 1745 = .ok (.ireturn, 1) := dk_172 (dk_at dksL_law_66 7 rfl rfl)
theorem dL_law_1746 : decode cL_law 1746 = .ok (.aload_n 1, 1) := dk_43 (dk_at dksL_law_66 8 rfl rfl)
theorem dL_law_1747 : decode cL_law 1747 = .ok (.aload_n 0, 1) := dk_42 (dk_at dksL_law_66 9 rfl rfl)
theorem dL_law_1748 : decode cL_law 1748 = .ok (.iload 4, 2) := dk_21 4 (dk_at dksL_law_66 10 rfl rfl)
theorem dL_law_1750 : decode cL_law 1750 = .ok (.iconst 1, 1) := dk_4 (dk_at dksL_law_66 12 rfl rfl)
theorem dL_law_1751 : decode cL_law 1751 = .ok (.iadd, 1) := dk_96 (dk_at dksL_law_66 13 rfl rfl)
theorem dL_law_1752 : decode cL_law 1752 = .ok (.iaload, 1) := dk_46 (dk_at dksL_law_66 14 rfl rfl)
theorem dL_law_1753 : decode cL_law 1753 = .ok (.aload_n 0, 1) := dk_42 (dk_at dksL_law_66 15 rfl rfl)
theorem dL_law_1754 : decode cL_law 1754 = .ok (.iload 4, 2) := dk_21 4 (dk_at dksL_law_66 16 rfl rfl)
theorem dL_law_1756 : decode cL_law 1756 = .ok (.iconst 2, 1) := dk_5 (dk_at dksL_law_66 18 rfl rfl)
theorem dL_law_1757 : decode cL_law 1757 = .ok (.iadd, 1) := dk_96 (dk_at dksL_law_66 19 rfl rfl)
theorem dL_law_1758 : decode cL_law 1758 = .ok (.iaload, 1) := dk_46 (dk_at dksL_law_66 20 rfl rfl)
theorem dL_law_1759 : decode cL_law 1759 = .ok (.invokevirtual 192, 3) := dk_182 0 192 (dk_at dksL_law_66 21 rfl rfl)
theorem dL_law_1762 : decode cL_law 1762 = .ok (.aload_n 2, 1) := dk_44 (dk_at dksL_law_67 0 rfl rfl)
theorem dL_law_1763 : decode cL_law 1763 = .ok (.aload_n 0, 1) := dk_42 (dk_at dksL_law_67 1 rfl rfl)
theorem dL_law_1764 : decode cL_law 1764 = .ok (.iload 4, 2) := dk_21 4 (dk_at dksL_law_67 2 rfl rfl)
theorem dL_law_1766 : decode cL_law 1766 = .ok (.iconst 1, 1) := dk_4 (dk_at dksL_law_67 4 rfl rfl)
theorem dL_law_1767 : decode cL_law 1767 = .ok (.iadd, 1) := dk_96 (dk_at dksL_law_67 5 rfl rfl)
theorem dL_law_1768 : decode cL_law 1768 = .ok (.iaload, 1) := dk_46 (dk_at dksL_law_67 6 rfl rfl)
theorem dL_law_1769 : decode cL_law 1769 = .ok (.aload_n 0, 1) := dk_42 (dk_at dksL_law_67 7 rfl rfl)
theorem dL_law_1770 : decode cL_law 1770 = .ok (.iload 4, 2) := dk_21 4 (dk_at dksL_law_67 8 rfl rfl)
theorem dL_law_1772 : decode cL_law 1772 = .ok (.iconst 2, 1) := dk_5 (dk_at dksL_law_67 10 rfl rfl)
theorem dL_law_1773 : decode cL_law 1773 = .ok (.iadd, 1) := dk_96 (dk_at dksL_law_67 11 rfl rfl)
theorem dL_law_1774 : decode cL_law 1774 = .ok (.iaload, 1) := dk_46 (dk_at dksL_law_67 12 rfl rfl)
theorem dL_law_1775 : decode cL_law 1775 = .ok (.invokevirtual 195, 3) := dk_182 0 195 (dk_at dksL_law_67 13 rfl rfl)
theorem dL_law_1778 : decode cL_law 1778 = .ok (.if_icmp .eq 214, 3) := dk_159 0 214 (dk_at dksL_law_67 16 rfl rfl)
theorem dL_law_1781 : decode cL_law 1781 = .ok (.iconst 0, 1) := dk_3 (dk_at dksL_law_67 19 rfl rfl)
theorem dL_law_1782 : decode cL_law 1782 = .ok (.ireturn, 1) := dk_172 (dk_at dksL_law_67 20 rfl rfl)
theorem dL_law_1783 : decode cL_law 1783 = .ok (.aload_n 1, 1) := dk_43 (dk_at dksL_law_67 21 rfl rfl)
theorem dL_law_1784 : decode cL_law 1784 = .ok (.aload_n 0, 1) := dk_42 (dk_at dksL_law_67 22 rfl rfl)
theorem dL_law_1785 : decode cL_law 1785 = .ok (.iload 4, 2) := dk_21 4 (dk_at dksL_law_68 0 rfl rfl)
theorem dL_law_1787 : decode cL_law 1787 = .ok (.iconst 1, 1) := dk_4 (dk_at dksL_law_68 2 rfl rfl)
theorem dL_law_1788 : decode cL_law 1788 = .ok (.iadd, 1) := dk_96 (dk_at dksL_law_68 3 rfl rfl)
theorem dL_law_1789 : decode cL_law 1789 = .ok (.iaload, 1) := dk_46 (dk_at dksL_law_68 4 rfl rfl)
theorem dL_law_1790 : decode cL_law 1790 = .ok (.aload_n 0, 1) := dk_42 (dk_at dksL_law_68 5 rfl rfl)
theorem dL_law_1791 : decode cL_law 1791 = .ok (.iload 4, 2) := dk_21 4 (dk_at dksL_law_68 6 rfl rfl)
theorem dL_law_1793 : decode cL_law 1793 = .ok (.iconst 2, 1) := dk_5 (dk_at dksL_law_68 8 rfl rfl)
theorem dL_law_1794 : decode cL_law 1794 = .ok (.iadd, 1) := dk_96 (dk_at dksL_law_68 9 rfl rfl)
theorem dL_law_1795 : decode cL_law 1795 = .ok (.iaload, 1) := dk_46 (dk_at dksL_law_68 10 rfl rfl)
theorem dL_law_1796 : decode cL_law 1796 = .ok (.aload_n 0, 1) := dk_42 (dk_at dksL_law_68 11 rfl rfl)
theorem dL_law_1797 : decode cL_law 1797 = .ok (.iload 4, 2) := dk_21 4 (dk_at dksL_law_68 12 rfl rfl)
theorem dL_law_1799 : decode cL_law 1799 = .ok (.iconst 3, 1) := dk_6 (dk_at dksL_law_68 14 rfl rfl)
theorem dL_law_1800 : decode cL_law 1800 = .ok (.iadd, 1) := dk_96 (dk_at dksL_law_68 15 rfl rfl)
theorem dL_law_1801 : decode cL_law 1801 = .ok (.iaload, 1) := dk_46 (dk_at dksL_law_68 16 rfl rfl)
theorem dL_law_1802 : decode cL_law 1802 = .ok (.invokevirtual 196, 3) := dk_182 0 196 (dk_at dksL_law_68 17 rfl rfl)
theorem dL_law_1805 : decode cL_law 1805 = .ok (.aload_n 2, 1) := dk_44 (dk_at dksL_law_68 20 rfl rfl)
theorem dL_law_1806 : decode cL_law 1806 = .ok (.aload_n 0, 1) := dk_42 (dk_at dksL_law_68 21 rfl rfl)
theorem dL_law_1807 : decode cL_law 1807 = .ok (.iload 4, 2) := dk_21 4 (dk_at dksL_law_68 22 rfl rfl)
theorem dL_law_1809 : decode cL_law 1809 = .ok (.iconst 1, 1) := dk_4 (dk_at dksL_law_69 0 rfl rfl)
theorem dL_law_1810 : decode cL_law 1810 = .ok (.iadd, 1) := dk_96 (dk_at dksL_law_69 1 rfl rfl)
theorem dL_law_1811 : decode cL_law 1811 = .ok (.iaload, 1) := dk_46 (dk_at dksL_law_69 2 rfl rfl)
theorem dL_law_1812 : decode cL_law 1812 = .ok (.aload_n 0, 1) := dk_42 (dk_at dksL_law_69 3 rfl rfl)
theorem dL_law_1813 : decode cL_law 1813 = .ok (.iload 4, 2) := dk_21 4 (dk_at dksL_law_69 4 rfl rfl)
theorem dL_law_1815 : decode cL_law 1815 = .ok (.iconst 2, 1) := dk_5 (dk_at dksL_law_69 6 rfl rfl)
theorem dL_law_1816 : decode cL_law 1816 = .ok (.iadd, 1) := dk_96 (dk_at dksL_law_69 7 rfl rfl)
theorem dL_law_1817 : decode cL_law 1817 = .ok (.iaload, 1) := dk_46 (dk_at dksL_law_69 8 rfl rfl)
theorem dL_law_1818 : decode cL_law 1818 = .ok (.aload_n 0, 1) := dk_42 (dk_at dksL_law_69 9 rfl rfl)
theorem dL_law_1819 : decode cL_law 1819 = .ok (.iload 4, 2) := dk_21 4 (dk_at dksL_law_69 10 rfl rfl)
theorem dL_law_1821 : decode cL_law 1821 = .ok (.iconst 3, 1) := dk_6 (dk_at dksL_law_69 12 rfl rfl)
theorem dL_law_1822 : decode cL_law 1822 = .ok (.iadd, 1) := dk_96 (dk_at dksL_law_69 13 rfl rfl)
theorem dL_law_1823 : decode cL_law 1823 = .ok (.iaload, 1) := dk_46 (dk_at dksL_law_69 14 rfl rfl)
theorem dL_law_1824 : decode cL_law 1824 = .ok (.invokevirtual 199, 3) := dk_182 0 199 (dk_at dksL_law_69 15 rfl rfl)
theorem dL_law_1827 : decode cL_law 1827 = .ok (.if_icmp .eq 165, 3) := dk_159 0 165 (dk_at dksL_law_69 18 rfl rfl)
theorem dL_law_1830 : decode cL_law 1830 = .ok (.iconst 0, 1) := dk_3 (dk_at dksL_law_69 21 rfl rfl)
theorem dL_law_1831 : decode cL_law 1831 = .ok (.ireturn, 1) := dk_172 (dk_at dksL_law_69 22 rfl rfl)
theorem dL_law_1832 : decode cL_law 1832 = .ok (.aload_n 1, 1) := dk_43 (dk_at dksL_law_69 23 rfl rfl)
theorem dL_law_1833 : decode cL_law 1833 = .ok (.aload_n 0, 1) := dk_42 (dk_at dksL_law_70 0 rfl rfl)
theorem dL_law_1834 : decode cL_law 1834 = .ok (.iload 4, 2) := dk_21 4 (dk_at dksL_law_70 1 rfl rfl)
theorem dL_law_1836 : decode cL_law 1836 = .ok (.iconst 1, 1) := dk_4 (dk_at dksL_law_70 3 rfl rfl)
theorem dL_law_1837 : decode cL_law 1837 = .ok (.iadd, 1) := dk_96 (dk_at dksL_law_70 4 rfl rfl)
theorem dL_law_1838 : decode cL_law 1838 = .ok (.iaload, 1) := dk_46 (dk_at dksL_law_70 5 rfl rfl)
theorem dL_law_1839 : decode cL_law 1839 = .ok (.aload_n 0, 1) := dk_42 (dk_at dksL_law_70 6 rfl rfl)
theorem dL_law_1840 : decode cL_law 1840 = .ok (.iload 4, 2) := dk_21 4 (dk_at dksL_law_70 7 rfl rfl)
theorem dL_law_1842 : decode cL_law 1842 = .ok (.iconst 2, 1) := dk_5 (dk_at dksL_law_70 9 rfl rfl)
theorem dL_law_1843 : decode cL_law 1843 = .ok (.iadd, 1) := dk_96 (dk_at dksL_law_70 10 rfl rfl)
theorem dL_law_1844 : decode cL_law 1844 = .ok (.iaload, 1) := dk_46 (dk_at dksL_law_70 11 rfl rfl)
theorem dL_law_1845 : decode cL_law 1845 = .ok (.invokevirtual 200, 3) := dk_182 0 200 (dk_at dksL_law_70 12 rfl rfl)
theorem dL_law_1848 : decode cL_law 1848 = .ok (.aload_n 2, 1) := dk_44 (dk_at dksL_law_70 15 rfl rfl)
theorem dL_law_1849 : decode cL_law 1849 = .ok (.aload_n 0, 1) := dk_42 (dk_at dksL_law_70 16 rfl rfl)
theorem dL_law_1850 : decode cL_law 1850 = .ok (.iload 4, 2) := dk_21 4 (dk_at dksL_law_70 17 rfl rfl)
theorem dL_law_1852 : decode cL_law 1852 = .ok (.iconst 1, 1) := dk_4 (dk_at dksL_law_70 19 rfl rfl)
theorem dL_law_1853 : decode cL_law 1853 = .ok (.iadd, 1) := dk_96 (dk_at dksL_law_70 20 rfl rfl)
theorem dL_law_1854 : decode cL_law 1854 = .ok (.iaload, 1) := dk_46 (dk_at dksL_law_70 21 rfl rfl)
theorem dL_law_1855 : decode cL_law 1855 = .ok (.aload_n 0, 1) := dk_42 (dk_at dksL_law_70 22 rfl rfl)
theorem dL_law_1856 : decode cL_law 1856 = .ok (.iload 4, 2) := dk_21 4 (dk_at dksL_law_71 0 rfl rfl)
theorem dL_law_1858 : decode cL_law 1858 = .ok (.iconst 2, 1) := dk_5 (dk_at dksL_law_71 2 rfl rfl)
theorem dL_law_1859 : decode cL_law 1859 = .ok (.iadd, 1) := dk_96 (dk_at dksL_law_71 3 rfl rfl)
theorem dL_law_1860 : decode cL_law 1860 = .ok (.iaload, 1) := dk_46 (dk_at dksL_law_71 4 rfl rfl)
theorem dL_law_1861 : decode cL_law 1861 = .ok (.invokevirtual 203, 3) := dk_182 0 203 (dk_at dksL_law_71 5 rfl rfl)
theorem dL_law_1864 : decode cL_law 1864 = .ok (.if_icmp .eq 128, 3) := dk_159 0 128 (dk_at dksL_law_71 8 rfl rfl)
theorem dL_law_1867 : decode cL_law 1867 = .ok (.iconst 0, 1) := dk_3 (dk_at dksL_law_71 11 rfl rfl)
theorem dL_law_1868 : decode cL_law 1868 = .ok (.ireturn, 1) := dk_172 (dk_at dksL_law_71 12 rfl rfl)
theorem dL_law_1869 : decode cL_law 1869 = .ok (.aload_n 1, 1) := dk_43 (dk_at dksL_law_71 13 rfl rfl)
theorem dL_law_1870 : decode cL_law 1870 = .ok (.invokevirtual 204, 3) := dk_182 0 204 (dk_at dksL_law_71 14 rfl rfl)
theorem dL_law_1873 : decode cL_law 1873 = .ok (.aload_n 2, 1) := dk_44 (dk_at dksL_law_71 17 rfl rfl)
theorem dL_law_1874 : decode cL_law 1874 = .ok (.invokevirtual 207, 3) := dk_182 0 207 (dk_at dksL_law_71 18 rfl rfl)
theorem dL_law_1877 : decode cL_law 1877 = .ok (.if_icmp .eq 115, 3) := dk_159 0 115 (dk_at dksL_law_71 21 rfl rfl)
theorem dL_law_1880 : decode cL_law 1880 = .ok (.iconst 0, 1) := dk_3 (dk_at dksL_law_72 0 rfl rfl)
theorem dL_law_1881 : decode cL_law 1881 = .ok (.ireturn, 1) := dk_172 (dk_at dksL_law_72 1 rfl rfl)
theorem dL_law_1882 : decode cL_law 1882 = .ok (.aload_n 1, 1) := dk_43 (dk_at dksL_law_72 2 rfl rfl)
theorem dL_law_1883 : decode cL_law 1883 = .ok (.aload_n 0, 1) := dk_42 (dk_at dksL_law_72 3 rfl rfl)
theorem dL_law_1884 : decode cL_law 1884 = .ok (.iload 4, 2) := dk_21 4 (dk_at dksL_law_72 4 rfl rfl)
theorem dL_law_1886 : decode cL_law 1886 = .ok (.iconst 1, 1) := dk_4 (dk_at dksL_law_72 6 rfl rfl)
theorem dL_law_1887 : decode cL_law 1887 = .ok (.iadd, 1) := dk_96 (dk_at dksL_law_72 7 rfl rfl)
theorem dL_law_1888 : decode cL_law 1888 = .ok (.iaload, 1) := dk_46 (dk_at dksL_law_72 8 rfl rfl)
theorem dL_law_1889 : decode cL_law 1889 = .ok (.aload_n 0, 1) := dk_42 (dk_at dksL_law_72 9 rfl rfl)
theorem dL_law_1890 : decode cL_law 1890 = .ok (.iload 4, 2) := dk_21 4 (dk_at dksL_law_72 10 rfl rfl)
theorem dL_law_1892 : decode cL_law 1892 = .ok (.iconst 2, 1) := dk_5 (dk_at dksL_law_72 12 rfl rfl)
theorem dL_law_1893 : decode cL_law 1893 = .ok (.iadd, 1) := dk_96 (dk_at dksL_law_72 13 rfl rfl)
theorem dL_law_1894 : decode cL_law 1894 = .ok (.iaload, 1) := dk_46 (dk_at dksL_law_72 14 rfl rfl)
theorem dL_law_1895 : decode cL_law 1895 = .ok (.ifCond .eq 7, 3) := dk_153 0 7 (dk_at dksL_law_72 15 rfl rfl)
theorem dL_law_1898 : decode cL_law 1898 = .ok (.iconst 1, 1) := dk_4 (dk_at dksL_law_72 18 rfl rfl)
theorem dL_law_1899 : decode cL_law 1899 = .ok (.goto 4, 3) := dk_167 0 4 (dk_at dksL_law_72 19 rfl rfl)
theorem dL_law_1902 : decode cL_law 1902 = .ok (.iconst 0, 1) := dk_3 (dk_at dksL_law_72 22 rfl rfl)
theorem dL_law_1903 : decode cL_law 1903 = .ok (.aload_n 3, 1) := dk_45 (dk_at dksL_law_72 23 rfl rfl)
theorem dL_law_1904 : decode cL_law 1904 = .ok (.invokestatic 208, 3) := dk_184 0 208 (dk_at dksL_law_73 0 rfl rfl)
theorem dL_law_1907 : decode cL_law 1907 = .ok (.istore 5, 2) := dk_54 5 (dk_at dksL_law_73 3 rfl rfl)
theorem dL_law_1909 : decode cL_law 1909 = .ok (.aload_n 2, 1) := dk_44 (dk_at dksL_law_73 5 rfl rfl)
theorem dL_law_1910 : decode cL_law 1910 = .ok (.aload_n 0, 1) := dk_42 (dk_at dksL_law_73 6 rfl rfl)
theorem dL_law_1911 : decode cL_law 1911 = .ok (.iload 4, 2) := dk_21 4 (dk_at dksL_law_73 7 rfl rfl)
theorem dL_law_1913 : decode cL_law 1913 = .ok (.iconst 1, 1) := dk_4 (dk_at dksL_law_73 9 rfl rfl)
theorem dL_law_1914 : decode cL_law 1914 = .ok (.iadd, 1) := dk_96 (dk_at dksL_law_73 10 rfl rfl)
theorem dL_law_1915 : decode cL_law 1915 = .ok (.iaload, 1) := dk_46 (dk_at dksL_law_73 11 rfl rfl)
theorem dL_law_1916 : decode cL_law 1916 = .ok (.aload_n 0, 1) := dk_42 (dk_at dksL_law_73 12 rfl rfl)
theorem dL_law_1917 : decode cL_law 1917 = .ok (.iload 4, 2) := dk_21 4 (dk_at dksL_law_73 13 rfl rfl)
theorem dL_law_1919 : decode cL_law 1919 = .ok (.iconst 2, 1) := dk_5 (dk_at dksL_law_73 15 rfl rfl)
theorem dL_law_1920 : decode cL_law 1920 = .ok (.iadd, 1) := dk_96 (dk_at dksL_law_73 16 rfl rfl)
theorem dL_law_1921 : decode cL_law 1921 = .ok (.iaload, 1) := dk_46 (dk_at dksL_law_73 17 rfl rfl)
theorem dL_law_1922 : decode cL_law 1922 = .ok (.ifCond .eq 7, 3) := dk_153 0 7 (dk_at dksL_law_73 18 rfl rfl)
theorem dL_law_1925 : decode cL_law 1925 = .ok (.iconst 1, 1) := dk_4 (dk_at dksL_law_73 21 rfl rfl)
theorem dL_law_1926 : decode cL_law 1926 = .ok (.goto 4, 3) := dk_167 0 4 (dk_at dksL_law_74 0 rfl rfl)
theorem dL_law_1929 : decode cL_law 1929 = .ok (.iconst 0, 1) := dk_3 (dk_at dksL_law_74 3 rfl rfl)
theorem dL_law_1930 : decode cL_law 1930 = .ok (.invokevirtual 213, 3) := dk_182 0 213 (dk_at dksL_law_74 4 rfl rfl)
theorem dL_law_1933 : decode cL_law 1933 = .ok (.istore 6, 2) := dk_54 6 (dk_at dksL_law_74 7 rfl rfl)
theorem dL_law_1935 : decode cL_law 1935 = .ok (.aload_n 2, 1) := dk_44 (dk_at dksL_law_74 9 rfl rfl)
theorem dL_law_1936 : decode cL_law 1936 = .ok (.invokevirtual 214, 3) := dk_182 0 214 (dk_at dksL_law_74 10 rfl rfl)
theorem dL_law_1939 : decode cL_law 1939 = .ok (.iload 5, 2) := dk_21 5 (dk_at dksL_law_74 13 rfl rfl)
theorem dL_law_1941 : decode cL_law 1941 = .ok (.if_icmp .eq 5, 3) := dk_159 0 5 (dk_at dksL_law_74 15 rfl rfl)
theorem dL_law_1944 : decode cL_law 1944 = .ok (.iconst 0, 1) := dk_3 (dk_at dksL_law_74 18 rfl rfl)
theorem dL_law_1945 : decode cL_law 1945 = .ok (.ireturn, 1) := dk_172 (dk_at dksL_law_74 19 rfl rfl)
theorem dL_law_1946 : decode cL_law 1946 = .ok (.iload 5, 2) := dk_21 5 (dk_at dksL_law_74 20 rfl rfl)
theorem dL_law_1948 : decode cL_law 1948 = .ok (.ifCond .ne 15, 3) := dk_154 0 15 (dk_at dksL_law_75 0 rfl rfl)
theorem dL_law_1951 : decode cL_law 1951 = .ok (.aload_n 3, 1) := dk_45 (dk_at dksL_law_75 3 rfl rfl)
theorem dL_law_1952 : decode cL_law 1952 = .ok (.iconst 0, 1) := dk_3 (dk_at dksL_law_75 4 rfl rfl)
theorem dL_law_1953 : decode cL_law 1953 = .ok (.laload, 1) := dk_47 (dk_at dksL_law_75 5 rfl rfl)
theorem dL_law_1954 : decode cL_law 1954 = .ok (.iload 6, 2) := dk_21 6 (dk_at dksL_law_75 6 rfl rfl)
theorem dL_law_1956 : decode cL_law 1956 = .ok (.i2l, 1) := dk_133 (dk_at dksL_law_75 8 rfl rfl)
theorem dL_law_1957 : decode cL_law 1957 = .ok (.lcmp, 1) := dk_148 (dk_at dksL_law_75 9 rfl rfl)
theorem dL_law_1958 : decode cL_law 1958 = .ok (.ifCond .eq 5, 3) := dk_153 0 5 (dk_at dksL_law_75 10 rfl rfl)
theorem dL_law_1961 : decode cL_law 1961 = .ok (.iconst 0, 1) := dk_3 (dk_at dksL_law_75 13 rfl rfl)
theorem dL_law_1962 : decode cL_law 1962 = .ok (.ireturn, 1) := dk_172 (dk_at dksL_law_75 14 rfl rfl)
theorem dL_law_1963 : decode cL_law 1963 = .ok (.goto 29, 3) := dk_167 0 29 (dk_at dksL_law_75 15 rfl rfl)
theorem dL_law_1966 : decode cL_law 1966 = .ok (.aload_n 1, 1) := dk_43 (dk_at dksL_law_75 18 rfl rfl)
theorem dL_law_1967 : decode cL_law 1967 = .ok (.invokevirtual 217, 3) := dk_182 0 217 (dk_at dksL_law_75 19 rfl rfl)
theorem dL_law_1970 : decode cL_law 1970 = .ok (.aload_n 2, 1) := dk_44 (dk_at dksL_law_75 22 rfl rfl)
theorem dL_law_1971 : decode cL_law 1971 = .ok (.invokevirtual 220, 3) := dk_182 0 220 (dk_at dksL_law_76 0 rfl rfl)
theorem dL_law_1974 : decode cL_law 1974 = .ok (.if_icmp .eq 18, 3) := dk_159 0 18 (dk_at dksL_law_76 3 rfl rfl)
theorem dL_law_1977 : decode cL_law 1977 = .ok (.iconst 0, 1) := dk_3 (dk_at dksL_law_76 6 rfl rfl)
theorem dL_law_1978 : decode cL_law 1978 = .ok (.ireturn, 1) := dk_172 (dk_at dksL_law_76 7 rfl rfl)
theorem dL_law_1979 : decode cL_law 1979 = .ok (.aload_n 1, 1) := dk_43 (dk_at dksL_law_76 8 rfl rfl)
theorem dL_law_1980 : decode cL_law 1980 = .ok (.invokevirtual 221, 3) := dk_182 0 221 (dk_at dksL_law_76 9 rfl rfl)
theorem dL_law_1983 : decode cL_law 1983 = .ok (.aload_n 2, 1) := dk_44 (dk_at dksL_law_76 12 rfl rfl)
theorem dL_law_1984 : decode cL_law 1984 = .ok (.invokevirtual 224, 3) := dk_182 0 224 (dk_at dksL_law_76 13 rfl rfl)
theorem dL_law_1987 : decode cL_law 1987 = .ok (.if_icmp .eq 5, 3) := dk_159 0 5 (dk_at dksL_law_76 16 rfl rfl)
theorem dL_law_1990 : decode cL_law 1990 = .ok (.iconst 0, 1) := dk_3 (dk_at dksL_law_76 19 rfl rfl)
theorem dL_law_1991 : decode cL_law 1991 = .ok (.ireturn, 1) := dk_172 (dk_at dksL_law_76 20 rfl rfl)
theorem dL_law_1992 : decode cL_law 1992 = .ok (.iinc 4 6, 3) := dk_132 4 6 (dk_at dksL_law_76 21 rfl rfl)
theorem dL_law_1995 : decode cL_law 1995 = .ok (.goto (-1972), 3) := dk_167 248 76 (dk_at dksL_law_77 0 rfl rfl)
theorem dL_law_1998 : decode cL_law 1998 = .ok (.iconst 1, 1) := dk_4 (dk_at dksL_law_77 3 rfl rfl)
theorem dL_law_1999 : decode cL_law 1999 = .ok (.ireturn, 1) := dk_172 (dk_at dksL_law_77 4 rfl rfl)
noncomputable def f_L_law_1992  (k23 : Nat × Nat × Nat × Nat × Int32 × PH → Option (xO × PH)) (v0 : Nat) (v1 : Nat) (v2 : Nat) (v3 : Nat) (v4 : Int32) (p0 : PH) : Option (xO × PH) :=
  (bnd (v4 + 6) fun x11 =>
  (k23 (v0, v1, v2, v3, x11, p0)))
noncomputable def f_L_law_1963  (k23 : Nat × Nat × Nat × Nat × Int32 × PH → Option (xO × PH)) (v0 : Nat) (v1 : Nat) (v2 : Nat) (v3 : Nat) (v4 : Int32) (p0 : PH) : Option (xO × PH) :=
  (f_L_law_1992 k23 v0 v1 v2 v3 v4 p0)
noncomputable def f_L_law_1930  (k23 : Nat × Nat × Nat × Nat × Int32 × PH → Option (xO × PH)) (v0 : Nat) (v1 : Nat) (v2 : Nat) (v3 : Nat) (v4 : Int32) (v5 : Int32) (w0 : Nat) (w1 : Int32) (w2 : Int32) (p0 : PH) : Option (xO × PH) :=
  (xcI (g_named p0 w0 w1 w2) fun x375 p374 =>
  (xcI (g_thrown p374 v2 ) fun x377 p376 =>
  (if x377 = v5 then
  (if v5 = 0 then
  (xaL p376 v3 3 0 fun x378 =>
  (if (lg_cmp x378 x375.toInt64) = 0 then
  (f_L_law_1963 k23 v0 v1 v2 v3 v4 p376) else
  (if vp_nar .boolean 0 = 0 then rI 0 p376 else none))) else
  (f_L_law_1963 k23 v0 v1 v2 v3 v4 p376)) else
  (if vp_nar .boolean 0 = 0 then rI 0 p376 else none))))
noncomputable def f_L_law_1903  (k23 : Nat × Nat × Nat × Nat × Int32 × PH → Option (xO × PH)) (v0 : Nat) (v1 : Nat) (v2 : Nat) (v3 : Nat) (v4 : Int32) (w0 : Nat) (w1 : Int32) (w2 : Int32) (p0 : PH) : Option (xO × PH) :=
  (xcI (f_X0_named p0 (some w0) w1 w2 (some v3)) fun x371 p370 =>
  (xaI p370 v0 0 (v4 + 1) fun x372 =>
  (xaI p370 v0 0 (v4 + 2) fun x373 =>
  (if x373 = 0 then
  (f_L_law_1930 k23 v0 v1 v2 v3 v4 x371 v2 x372 0 p370) else
  (f_L_law_1930 k23 v0 v1 v2 v3 v4 x371 v2 x372 1 p370)))))
noncomputable def f_L_law_23F   (k23 : Nat × Nat × Nat × Nat × Int32 × PH → Option (xO × PH)) (p : Nat × Nat × Nat × Nat × Int32 × PH) : Option (xO × PH) := match p with
  | (v0, v1, v2, v3, v4, p0) => (xlen p0 v0 fun x9 =>
  (if (x9 - 6) < v4 then
  (if vp_nar .boolean 1 = 1 then rI 1 p0 else none) else
  (xaI p0 v0 0 v4 fun x10 =>
  (xtab (x10 &&& 63) 0 [
  (xaI p0 v0 0 (v4 + 1) fun x12 =>
  (xaI p0 v0 0 (v4 + 2) fun x13 =>
  (xaI p0 v0 0 (v4 + 3) fun x14 =>
  (xaI p0 v0 0 (v4 + 4) fun x15 =>
  (xaI p0 v0 0 (v4 + 5) fun x16 =>
  (xcI (f_X1_feed p0 v1 x12 x13 x14 x15 x16) fun x18 p17 =>
  (xaI p17 v0 0 (v4 + 1) fun x19 =>
  (xaI p17 v0 0 (v4 + 2) fun x20 =>
  (xaI p17 v0 0 (v4 + 3) fun x21 =>
  (xaI p17 v0 0 (v4 + 4) fun x22 =>
  (xaI p17 v0 0 (v4 + 5) fun x23 =>
  (xcI (g_feed p17 v2 x19 x20 x21 x22 x23) fun x25 p24 =>
  (if x18 = x25 then
  (f_L_law_1992 k23 v0 v1 v2 v3 v4 p24) else
  (if vp_nar .boolean 0 = 0 then rI 0 p24 else none)))))))))))))),
  (xaI p0 v0 0 (v4 + 1) fun x26 =>
  (xcI (f_X1_text p0 v1 x26) fun x28 p27 =>
  (xaI p27 v0 0 (v4 + 1) fun x29 =>
  (xcI (g_text p27 v2 x29) fun x31 p30 =>
  (if x28 = x31 then
  (f_L_law_1992 k23 v0 v1 v2 v3 v4 p30) else
  (if vp_nar .boolean 0 = 0 then rI 0 p30 else none)))))),
  (xcI (f_X1_fault p0 v1 ) fun x33 p32 =>
  (xcI (g_fault p32 v2 ) fun x35 p34 =>
  (if x33 = x35 then
  (f_L_law_1992 k23 v0 v1 v2 v3 v4 p34) else
  (if vp_nar .boolean 0 = 0 then rI 0 p34 else none)))),
  (xcI (f_X1_where p0 v1 ) fun x37 p36 =>
  (xcI (g_where p36 v2 ) fun x39 p38 =>
  (if x37 = x39 then
  (f_L_law_1992 k23 v0 v1 v2 v3 v4 p38) else
  (if vp_nar .boolean 0 = 0 then rI 0 p38 else none)))),
  (xaI p0 v0 0 (v4 + 1) fun x40 =>
  (xcI (f_X1_about p0 v1 x40) fun x42 p41 =>
  (xaI p41 v0 0 (v4 + 1) fun x43 =>
  (xcI (g_about p41 v2 x43) fun x45 p44 =>
  (if x42 = x45 then
  (f_L_law_1992 k23 v0 v1 v2 v3 v4 p44) else
  (if vp_nar .boolean 0 = 0 then rI 0 p44 else none)))))),
  (xaI p0 v0 0 (v4 + 1) fun x46 =>
  (xaI p0 v0 0 (v4 + 2) fun x47 =>
  (xcI (f_X1_course p0 v1 x46 x47) fun x49 p48 =>
  (xaI p48 v0 0 (v4 + 1) fun x50 =>
  (xaI p48 v0 0 (v4 + 2) fun x51 =>
  (xcI (g_course p48 v2 x50 x51) fun x53 p52 =>
  (if x49 = x53 then
  (f_L_law_1992 k23 v0 v1 v2 v3 v4 p52) else
  (if vp_nar .boolean 0 = 0 then rI 0 p52 else none)))))))),
  (xaI p0 v0 0 (v4 + 1) fun x54 =>
  (xaI p0 v0 0 (v4 + 2) fun x55 =>
  (xcI (f_X1_code p0 v1 x54 x55) fun x57 p56 =>
  (xaI p56 v0 0 (v4 + 1) fun x58 =>
  (xaI p56 v0 0 (v4 + 2) fun x59 =>
  (xcI (g_code p56 v2 x58 x59) fun x61 p60 =>
  (if x57 = x61 then
  (f_L_law_1992 k23 v0 v1 v2 v3 v4 p60) else
  (if vp_nar .boolean 0 = 0 then rI 0 p60 else none)))))))),
  (xaI p0 v0 0 (v4 + 1) fun x62 =>
  (xaI p0 v0 0 (v4 + 2) fun x63 =>
  (xcI (f_X1_runner p0 v1 x62 x63) fun x65 p64 =>
  (xaI p64 v0 0 (v4 + 1) fun x66 =>
  (xaI p64 v0 0 (v4 + 2) fun x67 =>
  (xcI (g_runner p64 v2 x66 x67) fun x69 p68 =>
  (if x65 = x69 then
  (f_L_law_1992 k23 v0 v1 v2 v3 v4 p68) else
  (if vp_nar .boolean 0 = 0 then rI 0 p68 else none)))))))),
  (xaI p0 v0 0 (v4 + 1) fun x70 =>
  (xaI p0 v0 0 (v4 + 2) fun x71 =>
  (xaI p0 v0 0 (v4 + 3) fun x72 =>
  (xcI (f_X1_punch p0 v1 x70 x71 x72) fun x74 p73 =>
  (xaI p73 v0 0 (v4 + 1) fun x75 =>
  (xaI p73 v0 0 (v4 + 2) fun x76 =>
  (xaI p73 v0 0 (v4 + 3) fun x77 =>
  (xcI (g_punch p73 v2 x75 x76 x77) fun x79 p78 =>
  (if x74 = x79 then
  (f_L_law_1992 k23 v0 v1 v2 v3 v4 p78) else
  (if vp_nar .boolean 0 = 0 then rI 0 p78 else none)))))))))),
  (xaI p0 v0 0 (v4 + 1) fun x80 =>
  (xaI p0 v0 0 (v4 + 2) fun x81 =>
  (xcI (f_X1_misses p0 v1 x80 x81) fun x83 p82 =>
  (xaI p82 v0 0 (v4 + 1) fun x84 =>
  (xaI p82 v0 0 (v4 + 2) fun x85 =>
  (xcI (g_misses p82 v2 x84 x85) fun x87 p86 =>
  (if x83 = x87 then
  (f_L_law_1992 k23 v0 v1 v2 v3 v4 p86) else
  (if vp_nar .boolean 0 = 0 then rI 0 p86 else none)))))))),
  (xaI p0 v0 0 (v4 + 1) fun x88 =>
  (xcI (f_X1_fits p0 v1 x88) fun x90 p89 =>
  (xaI p89 v0 0 (v4 + 1) fun x91 =>
  (xcI (g_fits p89 v2 x91) fun x93 p92 =>
  (if x90 = x93 then
  (f_L_law_1992 k23 v0 v1 v2 v3 v4 p92) else
  (if vp_nar .boolean 0 = 0 then rI 0 p92 else none)))))),
  (xaI p0 v0 0 (v4 + 1) fun x94 =>
  (xcI (f_X1_missed p0 v1 x94) fun x96 p95 =>
  (xaI p95 v0 0 (v4 + 1) fun x97 =>
  (xcI (g_missed p95 v2 x97) fun x99 p98 =>
  (if x96 = x99 then
  (f_L_law_1992 k23 v0 v1 v2 v3 v4 p98) else
  (if vp_nar .boolean 0 = 0 then rI 0 p98 else none)))))),
  (xaI p0 v0 0 (v4 + 1) fun x100 =>
  (xaI p0 v0 0 (v4 + 2) fun x101 =>
  (xaI p0 v0 0 (v4 + 3) fun x102 =>
  (xcI (f_X1_split p0 v1 x100 x101 x102) fun x104 p103 =>
  (xaI p103 v0 0 (v4 + 1) fun x105 =>
  (xaI p103 v0 0 (v4 + 2) fun x106 =>
  (xaI p103 v0 0 (v4 + 3) fun x107 =>
  (xcI (g_split p103 v2 x105 x106 x107) fun x109 p108 =>
  (if x104 = x109 then
  (f_L_law_1992 k23 v0 v1 v2 v3 v4 p108) else
  (if vp_nar .boolean 0 = 0 then rI 0 p108 else none)))))))))),
  (xaI p0 v0 0 (v4 + 1) fun x110 =>
  (xaI p0 v0 0 (v4 + 2) fun x111 =>
  (xaI p0 v0 0 (v4 + 3) fun x112 =>
  (xcI (f_X1_leg p0 v1 x110 x111 x112) fun x114 p113 =>
  (xaI p113 v0 0 (v4 + 1) fun x115 =>
  (xaI p113 v0 0 (v4 + 2) fun x116 =>
  (xaI p113 v0 0 (v4 + 3) fun x117 =>
  (xcI (g_leg p113 v2 x115 x116 x117) fun x119 p118 =>
  (if x114 = x119 then
  (f_L_law_1992 k23 v0 v1 v2 v3 v4 p118) else
  (if vp_nar .boolean 0 = 0 then rI 0 p118 else none)))))))))),
  (xaI p0 v0 0 (v4 + 1) fun x120 =>
  (xaI p0 v0 0 (v4 + 2) fun x121 =>
  (xaI p0 v0 0 (v4 + 3) fun x122 =>
  (xcI (f_X1_best p0 v1 x120 x121 x122) fun x124 p123 =>
  (xaI p123 v0 0 (v4 + 1) fun x125 =>
  (xaI p123 v0 0 (v4 + 2) fun x126 =>
  (xaI p123 v0 0 (v4 + 3) fun x127 =>
  (xcI (g_best p123 v2 x125 x126 x127) fun x129 p128 =>
  (if x124 = x129 then
  (f_L_law_1992 k23 v0 v1 v2 v3 v4 p128) else
  (if vp_nar .boolean 0 = 0 then rI 0 p128 else none)))))))))),
  (xaI p0 v0 0 (v4 + 1) fun x130 =>
  (xaI p0 v0 0 (v4 + 2) fun x131 =>
  (xcI (f_X1_leads p0 v1 x130 x131) fun x133 p132 =>
  (xaI p132 v0 0 (v4 + 1) fun x134 =>
  (xaI p132 v0 0 (v4 + 2) fun x135 =>
  (xcI (g_leads p132 v2 x134 x135) fun x137 p136 =>
  (if x133 = x137 then
  (f_L_law_1992 k23 v0 v1 v2 v3 v4 p136) else
  (if vp_nar .boolean 0 = 0 then rI 0 p136 else none)))))))),
  (xaI p0 v0 0 (v4 + 1) fun x138 =>
  (xcI (f_X1_changes p0 v1 x138) fun x140 p139 =>
  (xaI p139 v0 0 (v4 + 1) fun x141 =>
  (xcI (g_changes p139 v2 x141) fun x143 p142 =>
  (if x140 = x143 then
  (f_L_law_1992 k23 v0 v1 v2 v3 v4 p142) else
  (if vp_nar .boolean 0 = 0 then rI 0 p142 else none)))))),
  (xaI p0 v0 0 (v4 + 1) fun x144 =>
  (xaI p0 v0 0 (v4 + 2) fun x145 =>
  (xcI (f_X1_ranked p0 v1 x144 x145) fun x147 p146 =>
  (xaI p146 v0 0 (v4 + 1) fun x148 =>
  (xaI p146 v0 0 (v4 + 2) fun x149 =>
  (xcI (g_ranked p146 v2 x148 x149) fun x151 p150 =>
  (if x147 = x151 then
  (f_L_law_1992 k23 v0 v1 v2 v3 v4 p150) else
  (if vp_nar .boolean 0 = 0 then rI 0 p150 else none)))))))),
  (xaI p0 v0 0 (v4 + 1) fun x152 =>
  (xcI (f_X1_lost p0 v1 x152) fun x154 p153 =>
  (xaI p153 v0 0 (v4 + 1) fun x155 =>
  (xcI (g_lost p153 v2 x155) fun x157 p156 =>
  (if x154 = x157 then
  (f_L_law_1992 k23 v0 v1 v2 v3 v4 p156) else
  (if vp_nar .boolean 0 = 0 then rI 0 p156 else none)))))),
  (xaI p0 v0 0 (v4 + 1) fun x158 =>
  (xcI (f_X1_worst p0 v1 x158) fun x160 p159 =>
  (xaI p159 v0 0 (v4 + 1) fun x161 =>
  (xcI (g_worst p159 v2 x161) fun x163 p162 =>
  (if x160 = x163 then
  (f_L_law_1992 k23 v0 v1 v2 v3 v4 p162) else
  (if vp_nar .boolean 0 = 0 then rI 0 p162 else none)))))),
  (xaI p0 v0 0 (v4 + 1) fun x164 =>
  (xaI p0 v0 0 (v4 + 2) fun x165 =>
  (xcI (f_X1_pace p0 v1 x164 x165) fun x167 p166 =>
  (xaI p166 v0 0 (v4 + 1) fun x168 =>
  (xaI p166 v0 0 (v4 + 2) fun x169 =>
  (xcI (g_pace p166 v2 x168 x169) fun x171 p170 =>
  (if x167 = x171 then
  (f_L_law_1992 k23 v0 v1 v2 v3 v4 p170) else
  (if vp_nar .boolean 0 = 0 then rI 0 p170 else none)))))))),
  (xaI p0 v0 0 (v4 + 1) fun x172 =>
  (xcI (f_X1_mistakes p0 v1 x172) fun x174 p173 =>
  (xaI p173 v0 0 (v4 + 1) fun x175 =>
  (xcI (g_mistakes p173 v2 x175) fun x177 p176 =>
  (if x174 = x177 then
  (f_L_law_1992 k23 v0 v1 v2 v3 v4 p176) else
  (if vp_nar .boolean 0 = 0 then rI 0 p176 else none)))))),
  (xaI p0 v0 0 (v4 + 1) fun x178 =>
  (xcI (f_X1_clean p0 v1 x178) fun x180 p179 =>
  (xaI p179 v0 0 (v4 + 1) fun x181 =>
  (xcI (g_clean p179 v2 x181) fun x183 p182 =>
  (if x180 = x183 then
  (f_L_law_1992 k23 v0 v1 v2 v3 v4 p182) else
  (if vp_nar .boolean 0 = 0 then rI 0 p182 else none)))))),
  (xaI p0 v0 0 (v4 + 1) fun x184 =>
  (xaI p0 v0 0 (v4 + 2) fun x185 =>
  (xcI (f_X1_cleanPlace p0 v1 x184 x185) fun x187 p186 =>
  (xaI p186 v0 0 (v4 + 1) fun x188 =>
  (xaI p186 v0 0 (v4 + 2) fun x189 =>
  (xcI (g_cleanPlace p186 v2 x188 x189) fun x191 p190 =>
  (if x187 = x191 then
  (f_L_law_1992 k23 v0 v1 v2 v3 v4 p190) else
  (if vp_nar .boolean 0 = 0 then rI 0 p190 else none)))))))),
  (xaI p0 v0 0 (v4 + 1) fun x192 =>
  (xaI p0 v0 0 (v4 + 2) fun x193 =>
  (xaI p0 v0 0 (v4 + 3) fun x194 =>
  (xcI (f_X1_without p0 v1 x192 x193 x194) fun x196 p195 =>
  (xaI p195 v0 0 (v4 + 1) fun x197 =>
  (xaI p195 v0 0 (v4 + 2) fun x198 =>
  (xaI p195 v0 0 (v4 + 3) fun x199 =>
  (xcI (g_without p195 v2 x197 x198 x199) fun x201 p200 =>
  (if x196 = x201 then
  (f_L_law_1992 k23 v0 v1 v2 v3 v4 p200) else
  (if vp_nar .boolean 0 = 0 then rI 0 p200 else none)))))))))),
  (xaI p0 v0 0 (v4 + 1) fun x202 =>
  (xaI p0 v0 0 (v4 + 2) fun x203 =>
  (xcI (f_X1_hardest p0 v1 x202 x203) fun x205 p204 =>
  (xaI p204 v0 0 (v4 + 1) fun x206 =>
  (xaI p204 v0 0 (v4 + 2) fun x207 =>
  (xcI (g_hardest p204 v2 x206 x207) fun x209 p208 =>
  (if x205 = x209 then
  (f_L_law_1992 k23 v0 v1 v2 v3 v4 p208) else
  (if vp_nar .boolean 0 = 0 then rI 0 p208 else none)))))))),
  (xaI p0 v0 0 (v4 + 1) fun x210 =>
  (xcI (f_X1_packs p0 v1 x210) fun x212 p211 =>
  (xaI p211 v0 0 (v4 + 1) fun x213 =>
  (xcI (g_packs p211 v2 x213) fun x215 p214 =>
  (if x212 = x215 then
  (f_L_law_1992 k23 v0 v1 v2 v3 v4 p214) else
  (if vp_nar .boolean 0 = 0 then rI 0 p214 else none)))))),
  (xaI p0 v0 0 (v4 + 1) fun x216 =>
  (xaI p0 v0 0 (v4 + 2) fun x217 =>
  (xaI p0 v0 0 (v4 + 3) fun x218 =>
  (xcI (f_X1_pack p0 v1 x216 x217 x218) fun x220 p219 =>
  (xaI p219 v0 0 (v4 + 1) fun x221 =>
  (xaI p219 v0 0 (v4 + 2) fun x222 =>
  (xaI p219 v0 0 (v4 + 3) fun x223 =>
  (xcI (g_pack p219 v2 x221 x222 x223) fun x225 p224 =>
  (if x220 = x225 then
  (f_L_law_1992 k23 v0 v1 v2 v3 v4 p224) else
  (if vp_nar .boolean 0 = 0 then rI 0 p224 else none)))))))))),
  (xaI p0 v0 0 (v4 + 1) fun x226 =>
  (xaI p0 v0 0 (v4 + 2) fun x227 =>
  (xcI (f_X1_together p0 v1 x226 x227) fun x229 p228 =>
  (xaI p228 v0 0 (v4 + 1) fun x230 =>
  (xaI p228 v0 0 (v4 + 2) fun x231 =>
  (xcI (g_together p228 v2 x230 x231) fun x233 p232 =>
  (if x229 = x233 then
  (f_L_law_1992 k23 v0 v1 v2 v3 v4 p232) else
  (if vp_nar .boolean 0 = 0 then rI 0 p232 else none)))))))),
  (xaI p0 v0 0 (v4 + 1) fun x234 =>
  (xcI (f_X1_alone p0 v1 x234) fun x236 p235 =>
  (xaI p235 v0 0 (v4 + 1) fun x237 =>
  (xcI (g_alone p235 v2 x237) fun x239 p238 =>
  (if x236 = x239 then
  (f_L_law_1992 k23 v0 v1 v2 v3 v4 p238) else
  (if vp_nar .boolean 0 = 0 then rI 0 p238 else none)))))),
  (xaI p0 v0 0 (v4 + 1) fun x240 =>
  (xaI p0 v0 0 (v4 + 2) fun x241 =>
  (xaI p0 v0 0 (v4 + 3) fun x242 =>
  (xcI (f_X1_chase p0 v1 x240 x241 x242) fun x244 p243 =>
  (xaI p243 v0 0 (v4 + 1) fun x245 =>
  (xaI p243 v0 0 (v4 + 2) fun x246 =>
  (xaI p243 v0 0 (v4 + 3) fun x247 =>
  (xcI (g_chase p243 v2 x245 x246 x247) fun x249 p248 =>
  (if x244 = x249 then
  (f_L_law_1992 k23 v0 v1 v2 v3 v4 p248) else
  (if vp_nar .boolean 0 = 0 then rI 0 p248 else none)))))))))),
  (xaI p0 v0 0 (v4 + 1) fun x250 =>
  (xaI p0 v0 0 (v4 + 2) fun x251 =>
  (xcI (f_X1_team p0 v1 x250 x251) fun x253 p252 =>
  (xaI p252 v0 0 (v4 + 1) fun x254 =>
  (xaI p252 v0 0 (v4 + 2) fun x255 =>
  (xcI (g_team p252 v2 x254 x255) fun x257 p256 =>
  (if x253 = x257 then
  (f_L_law_1992 k23 v0 v1 v2 v3 v4 p256) else
  (if vp_nar .boolean 0 = 0 then rI 0 p256 else none)))))))),
  (xaI p0 v0 0 (v4 + 1) fun x258 =>
  (xcI (f_X1_mate p0 v1 x258) fun x260 p259 =>
  (xaI p259 v0 0 (v4 + 1) fun x261 =>
  (xcI (g_mate p259 v2 x261) fun x263 p262 =>
  (if x260 = x263 then
  (f_L_law_1992 k23 v0 v1 v2 v3 v4 p262) else
  (if vp_nar .boolean 0 = 0 then rI 0 p262 else none)))))),
  (xaI p0 v0 0 (v4 + 1) fun x264 =>
  (xaI p0 v0 0 (v4 + 2) fun x265 =>
  (xcI (f_X1_passes p0 v1 x264 x265) fun x267 p266 =>
  (xaI p266 v0 0 (v4 + 1) fun x268 =>
  (xaI p266 v0 0 (v4 + 2) fun x269 =>
  (xcI (g_passes p266 v2 x268 x269) fun x271 p270 =>
  (if x267 = x271 then
  (f_L_law_1992 k23 v0 v1 v2 v3 v4 p270) else
  (if vp_nar .boolean 0 = 0 then rI 0 p270 else none)))))))),
  (xaI p0 v0 0 (v4 + 1) fun x272 =>
  (xcI (f_X1_crowd p0 v1 x272) fun x274 p273 =>
  (xaI p273 v0 0 (v4 + 1) fun x275 =>
  (xcI (g_crowd p273 v2 x275) fun x277 p276 =>
  (if x274 = x277 then
  (f_L_law_1992 k23 v0 v1 v2 v3 v4 p276) else
  (if vp_nar .boolean 0 = 0 then rI 0 p276 else none)))))),
  (xaI p0 v0 0 (v4 + 1) fun x278 =>
  (xaI p0 v0 0 (v4 + 2) fun x279 =>
  (xaI p0 v0 0 (v4 + 3) fun x280 =>
  (xcI (f_X1_over p0 v1 x278 x279 x280) fun x282 p281 =>
  (xaI p281 v0 0 (v4 + 1) fun x283 =>
  (xaI p281 v0 0 (v4 + 2) fun x284 =>
  (xaI p281 v0 0 (v4 + 3) fun x285 =>
  (xcI (g_over p281 v2 x283 x284 x285) fun x287 p286 =>
  (if x282 = x287 then
  (f_L_law_1992 k23 v0 v1 v2 v3 v4 p286) else
  (if vp_nar .boolean 0 = 0 then rI 0 p286 else none)))))))))),
  (xaI p0 v0 0 (v4 + 1) fun x288 =>
  (xaI p0 v0 0 (v4 + 2) fun x289 =>
  (xcI (f_X1_common p0 v1 x288 x289) fun x291 p290 =>
  (xaI p290 v0 0 (v4 + 1) fun x292 =>
  (xaI p290 v0 0 (v4 + 2) fun x293 =>
  (xcI (g_common p290 v2 x292 x293) fun x295 p294 =>
  (if x291 = x295 then
  (f_L_law_1992 k23 v0 v1 v2 v3 v4 p294) else
  (if vp_nar .boolean 0 = 0 then rI 0 p294 else none)))))))),
  (xaI p0 v0 0 (v4 + 1) fun x296 =>
  (xaI p0 v0 0 (v4 + 2) fun x297 =>
  (xaI p0 v0 0 (v4 + 3) fun x298 =>
  (xcI (f_X1_add p0 v1 x296 x297 x298) fun x300 p299 =>
  (xaI p299 v0 0 (v4 + 1) fun x301 =>
  (xaI p299 v0 0 (v4 + 2) fun x302 =>
  (xaI p299 v0 0 (v4 + 3) fun x303 =>
  (xcI (g_add p299 v2 x301 x302 x303) fun x305 p304 =>
  (if x300 = x305 then
  (f_L_law_1992 k23 v0 v1 v2 v3 v4 p304) else
  (if vp_nar .boolean 0 = 0 then rI 0 p304 else none)))))))))),
  (xaI p0 v0 0 (v4 + 1) fun x306 =>
  (xaI p0 v0 0 (v4 + 2) fun x307 =>
  (xcI (f_X1_drop p0 v1 x306 x307) fun x309 p308 =>
  (xaI p308 v0 0 (v4 + 1) fun x310 =>
  (xaI p308 v0 0 (v4 + 2) fun x311 =>
  (xcI (g_drop p308 v2 x310 x311) fun x313 p312 =>
  (if x309 = x313 then
  (f_L_law_1992 k23 v0 v1 v2 v3 v4 p312) else
  (if vp_nar .boolean 0 = 0 then rI 0 p312 else none)))))))),
  (xaI p0 v0 0 (v4 + 1) fun x314 =>
  (xaI p0 v0 0 (v4 + 2) fun x315 =>
  (xcI (f_X1_start p0 v1 x314 x315) fun x317 p316 =>
  (xaI p316 v0 0 (v4 + 1) fun x318 =>
  (xaI p316 v0 0 (v4 + 2) fun x319 =>
  (xcI (g_start p316 v2 x318 x319) fun x321 p320 =>
  (if x317 = x321 then
  (f_L_law_1992 k23 v0 v1 v2 v3 v4 p320) else
  (if vp_nar .boolean 0 = 0 then rI 0 p320 else none)))))))),
  (xaI p0 v0 0 (v4 + 1) fun x322 =>
  (xaI p0 v0 0 (v4 + 2) fun x323 =>
  (xcI (f_X1_finish p0 v1 x322 x323) fun x325 p324 =>
  (xaI p324 v0 0 (v4 + 1) fun x326 =>
  (xaI p324 v0 0 (v4 + 2) fun x327 =>
  (xcI (g_finish p324 v2 x326 x327) fun x329 p328 =>
  (if x325 = x329 then
  (f_L_law_1992 k23 v0 v1 v2 v3 v4 p328) else
  (if vp_nar .boolean 0 = 0 then rI 0 p328 else none)))))))),
  (xaI p0 v0 0 (v4 + 1) fun x330 =>
  (xaI p0 v0 0 (v4 + 2) fun x331 =>
  (xcI (f_X1_move p0 v1 x330 x331) fun x333 p332 =>
  (xaI p332 v0 0 (v4 + 1) fun x334 =>
  (xaI p332 v0 0 (v4 + 2) fun x335 =>
  (xcI (g_move p332 v2 x334 x335) fun x337 p336 =>
  (if x333 = x337 then
  (f_L_law_1992 k23 v0 v1 v2 v3 v4 p336) else
  (if vp_nar .boolean 0 = 0 then rI 0 p336 else none)))))))),
  (xaI p0 v0 0 (v4 + 1) fun x338 =>
  (xaI p0 v0 0 (v4 + 2) fun x339 =>
  (xcI (f_X1_become p0 v1 x338 x339) fun x341 p340 =>
  (xaI p340 v0 0 (v4 + 1) fun x342 =>
  (xaI p340 v0 0 (v4 + 2) fun x343 =>
  (xcI (g_become p340 v2 x342 x343) fun x345 p344 =>
  (if x341 = x345 then
  (f_L_law_1992 k23 v0 v1 v2 v3 v4 p344) else
  (if vp_nar .boolean 0 = 0 then rI 0 p344 else none)))))))),
  (xaI p0 v0 0 (v4 + 1) fun x346 =>
  (xaI p0 v0 0 (v4 + 2) fun x347 =>
  (xaI p0 v0 0 (v4 + 3) fun x348 =>
  (xcI (f_X1_recode p0 v1 x346 x347 x348) fun x350 p349 =>
  (xaI p349 v0 0 (v4 + 1) fun x351 =>
  (xaI p349 v0 0 (v4 + 2) fun x352 =>
  (xaI p349 v0 0 (v4 + 3) fun x353 =>
  (xcI (g_recode p349 v2 x351 x352 x353) fun x355 p354 =>
  (if x350 = x355 then
  (f_L_law_1992 k23 v0 v1 v2 v3 v4 p354) else
  (if vp_nar .boolean 0 = 0 then rI 0 p354 else none)))))))))),
  (xaI p0 v0 0 (v4 + 1) fun x356 =>
  (xaI p0 v0 0 (v4 + 2) fun x357 =>
  (xcI (f_X1_cancel p0 v1 x356 x357) fun x359 p358 =>
  (xaI p358 v0 0 (v4 + 1) fun x360 =>
  (xaI p358 v0 0 (v4 + 2) fun x361 =>
  (xcI (g_cancel p358 v2 x360 x361) fun x363 p362 =>
  (if x359 = x363 then
  (f_L_law_1992 k23 v0 v1 v2 v3 v4 p362) else
  (if vp_nar .boolean 0 = 0 then rI 0 p362 else none)))))))),
  (xcI (f_X1_undo p0 v1 ) fun x365 p364 =>
  (xcI (g_undo p364 v2 ) fun x367 p366 =>
  (if x365 = x367 then
  (f_L_law_1992 k23 v0 v1 v2 v3 v4 p366) else
  (if vp_nar .boolean 0 = 0 then rI 0 p366 else none)))),
  (xaI p0 v0 0 (v4 + 1) fun x368 =>
  (xaI p0 v0 0 (v4 + 2) fun x369 =>
  (if x369 = 0 then
  (f_L_law_1903 k23 v0 v1 v2 v3 v4 v1 x368 0 p0) else
  (f_L_law_1903 k23 v0 v1 v2 v3 v4 v1 x368 1 p0)))),
  (xcI (f_X1_size p0 v1 ) fun x380 p379 =>
  (xcI (g_size p379 v2 ) fun x382 p381 =>
  (if x380 = x382 then
  (f_L_law_1992 k23 v0 v1 v2 v3 v4 p381) else
  (if vp_nar .boolean 0 = 0 then rI 0 p381 else none)))),
  (xcI (f_X1_trouble p0 v1 ) fun x384 p383 =>
  (xcI (g_trouble p383 v2 ) fun x386 p385 =>
  (if x384 = x386 then
  (f_L_law_1992 k23 v0 v1 v2 v3 v4 p385) else
  (if vp_nar .boolean 0 = 0 then rI 0 p385 else none))))]
  (f_L_law_1992 k23 v0 v1 v2 v3 v4 p0)))))
noncomputable def f_L_law (p0 : PH) (a0 : Nat) : Option (xO × PH) :=
  (xnew p0 0 [.int 0, .int 0, .null, .int 0, .int 0, .null, .null] fun b1 p2 =>
  (xcV (f_X1_init p2 b1 ) fun p3 =>
  (xnew p3 1 [.int 0, .int 0, .int 0, .int 0, .null, .int 0, .int 0, .null, .null, .null, .null, .int 0, .int 0, .int 0, .int 0, .int 0, .int 0, .int 0, .int 0, .null, .null, .null, .null, .int 0, .int 0, .null, .null, .int 0, .int 0, .int 0, .int 0, .null] fun b4 p5 =>
  (xcV (f_X2_init p5 b4 ) fun p6 =>
  (xnaL p6 3 1 fun b7 p8 =>
  (lp (f_L_law_23F) FU (a0, b1, b4, b7, 0, p8)))))))
theorem f_L_law_1992_ok {G : xG} (hO : xOK G)  {k23 : Nat × Nat × Nat × Nat × Int32 × PH → Option (xO × PH)} (hk23 : ∀ (v0 : Nat) (v1 : Nat) (v2 : Nat) (v3 : Nat) (v4 : Int32) (p0 : PH), X G "ForestLegsLaw" "law" cL_law 7 (Option.some Jvm.ClassFile.FieldType.boolean) 62 23 [(0, .ref v0), (1, .ref v1), (2, .ref v2), (3, .ref v3), (4, .int v4)] [] p0 (k23 (v0, v1, v2, v3, v4, p0))) (v0 : Nat) (v1 : Nat) (v2 : Nat) (v3 : Nat) (v4 : Int32) (p0 : PH) : X G "ForestLegsLaw" "law" cL_law 7 (Option.some Jvm.ClassFile.FieldType.boolean) 62 1992 [(0, .ref v0), (1, .ref v1), (2, .ref v2), (3, .ref v3), (4, .int v4)] [] p0 (f_L_law_1992 k23 v0 v1 v2 v3 v4 p0) := by
  unfold f_L_law_1992
  refine x_iincB 4 (fun x11 => [(4, .int x11), (0, .ref v0), (1, .ref v1), (2, .ref v2), (3, .ref v3)]) dL_law_1992 rfl rfl (by decide) (fun _ => rfl) (n := 1995) rfl (fun x11 => ?_)
  refine x_goto dL_law_1995 (n := 23) (by decide) ?_
  refine x_sub [1, 2, 3, 4, 0] [(0, .ref v0), (1, .ref v1), (2, .ref v2), (3, .ref v3), (4, .int x11)] rfl ?_
  exact hk23 v0 v1 v2 v3 x11 p0
theorem f_L_law_1963_ok {G : xG} (hO : xOK G)  {k23 : Nat × Nat × Nat × Nat × Int32 × PH → Option (xO × PH)} (hk23 : ∀ (v0 : Nat) (v1 : Nat) (v2 : Nat) (v3 : Nat) (v4 : Int32) (p0 : PH), X G "ForestLegsLaw" "law" cL_law 7 (Option.some Jvm.ClassFile.FieldType.boolean) 62 23 [(0, .ref v0), (1, .ref v1), (2, .ref v2), (3, .ref v3), (4, .int v4)] [] p0 (k23 (v0, v1, v2, v3, v4, p0))) (v0 : Nat) (v1 : Nat) (v2 : Nat) (v3 : Nat) (v4 : Int32) (p0 : PH) : X G "ForestLegsLaw" "law" cL_law 7 (Option.some Jvm.ClassFile.FieldType.boolean) 62 1963 [(0, .ref v0), (1, .ref v1), (2, .ref v2), (3, .ref v3), (4, .int v4)] [] p0 (f_L_law_1963 k23 v0 v1 v2 v3 v4 p0) := by
  unfold f_L_law_1963
  refine x_goto dL_law_1963 (n := 1992) (by decide) ?_
  exact f_L_law_1992_ok hO hk23 v0 v1 v2 v3 v4 p0
theorem f_L_law_1930_ok {G : xG} (hO : xOK G)  {k23 : Nat × Nat × Nat × Nat × Int32 × PH → Option (xO × PH)} (hk23 : ∀ (v0 : Nat) (v1 : Nat) (v2 : Nat) (v3 : Nat) (v4 : Int32) (p0 : PH), X G "ForestLegsLaw" "law" cL_law 7 (Option.some Jvm.ClassFile.FieldType.boolean) 62 23 [(0, .ref v0), (1, .ref v1), (2, .ref v2), (3, .ref v3), (4, .int v4)] [] p0 (k23 (v0, v1, v2, v3, v4, p0))) (v0 : Nat) (v1 : Nat) (v2 : Nat) (v3 : Nat) (v4 : Int32) (v5 : Int32) (w0 : Nat) (w1 : Int32) (w2 : Int32) (p0 : PH) : X G "ForestLegsLaw" "law" cL_law 7 (Option.some Jvm.ClassFile.FieldType.boolean) 62 1930 [(0, .ref v0), (1, .ref v1), (2, .ref v2), (3, .ref v3), (4, .int v4), (5, .int v5)] [.int w2, .int w1, .ref w0] p0 (f_L_law_1930 k23 v0 v1 v2 v3 v4 v5 w0 w1 w2 p0) := by
  unfold f_L_law_1930
  refine x_callV_I [.int w1, .int w2] [] (g_named_ok hO p0 w0 w1 w2) rc_X2_named md_X2_named rfl q3462 q3463 q3464 dL_law_1930 rfl rfl (by decide) (Nat.le_of_ble_eq_true rfl) (n := 1933) rfl (fun x375 p374 => ?_)
  refine x_istore [(6, .int x375), (0, .ref v0), (1, .ref v1), (2, .ref v2), (3, .ref v3), (4, .int v4), (5, .int v5)] dL_law_1933 (by decide) rfl (n := 1935) rfl ?_
  refine x_aload_nr 3 dL_law_1935 rfl rfl (n := 1936) rfl ?_
  refine x_callV_I [] [] (g_thrown_ok hO p374 v2 ) rc_X2_thrown md_X2_thrown rfl q3000 q3001 q3002 dL_law_1936 rfl rfl (by decide) (Nat.le_of_ble_eq_true rfl) (n := 1939) rfl (fun x377 p376 => ?_)
  refine x_iload 6 dL_law_1939 rfl (n := 1941) rfl ?_
  refine x_icmp_eq dL_law_1941 (t := 1946) (by decide) (n := 1944) rfl (fun _ => ?_) (fun _ => ?_)
  · refine x_iload 6 dL_law_1946 rfl (n := 1948) rfl ?_
    refine x_if_ne dL_law_1948 (t := 1963) (by decide) (n := 1951) rfl (fun _ => ?_) (fun _ => ?_)
    · refine x_sub [1, 2, 3, 4, 5] [(0, .ref v0), (1, .ref v1), (2, .ref v2), (3, .ref v3), (4, .int v4)] rfl ?_
      exact f_L_law_1963_ok hO hk23 v0 v1 v2 v3 v4 p376
    · refine x_aload_nr 4 dL_law_1951 rfl rfl (n := 1952) rfl ?_
      refine x_iconst 0 dL_law_1952 rfl (n := 1953) rfl ?_
      refine x_lald (t := 3) rfl dL_law_1953 (n := 1954) rfl (fun x378 => ?_)
      refine x_iload 0 dL_law_1954 rfl (n := 1956) rfl ?_
      refine x_i2l dL_law_1956 (n := 1957) rfl ?_
      refine x_lcmp dL_law_1957 (n := 1958) rfl ?_
      refine x_if_eq dL_law_1958 (t := 1963) (by decide) (n := 1961) rfl (fun _ => ?_) (fun _ => ?_)
      · refine x_sub [1, 2, 3, 4, 5] [(0, .ref v0), (1, .ref v1), (2, .ref v2), (3, .ref v3), (4, .int v4)] rfl ?_
        exact f_L_law_1963_ok hO hk23 v0 v1 v2 v3 v4 p376
      · refine x_iconst 0 dL_law_1961 rfl (n := 1962) rfl ?_
        exact x_nreturn rfl dL_law_1962
  · refine x_iconst 0 dL_law_1944 rfl (n := 1945) rfl ?_
    exact x_nreturn rfl dL_law_1945
theorem f_L_law_1903_ok {G : xG} (hO : xOK G)  {k23 : Nat × Nat × Nat × Nat × Int32 × PH → Option (xO × PH)} (hk23 : ∀ (v0 : Nat) (v1 : Nat) (v2 : Nat) (v3 : Nat) (v4 : Int32) (p0 : PH), X G "ForestLegsLaw" "law" cL_law 7 (Option.some Jvm.ClassFile.FieldType.boolean) 62 23 [(0, .ref v0), (1, .ref v1), (2, .ref v2), (3, .ref v3), (4, .int v4)] [] p0 (k23 (v0, v1, v2, v3, v4, p0))) (v0 : Nat) (v1 : Nat) (v2 : Nat) (v3 : Nat) (v4 : Int32) (w0 : Nat) (w1 : Int32) (w2 : Int32) (p0 : PH) : X G "ForestLegsLaw" "law" cL_law 7 (Option.some Jvm.ClassFile.FieldType.boolean) 62 1903 [(0, .ref v0), (1, .ref v1), (2, .ref v2), (3, .ref v3), (4, .int v4)] [.int w2, .int w1, .ref w0] p0 (f_L_law_1903 k23 v0 v1 v2 v3 v4 w0 w1 w2 p0) := by
  unfold f_L_law_1903
  refine x_aload_nr 3 dL_law_1903 rfl rfl (n := 1904) rfl ?_
  refine x_callSW_I [.ref w0, .int w1, .int w2, .ref v3] [] (f_X0_named_ok hO p0 (some w0) w1 w2 (some v3)) md_X0_named q2882 q2883 dL_law_1904 rfl rfl (by decide) (Nat.le_of_ble_eq_true rfl) (n := 1907) rfl (fun x371 p370 => ?_)
  refine x_istore [(5, .int x371), (0, .ref v0), (1, .ref v1), (2, .ref v2), (3, .ref v3), (4, .int v4)] dL_law_1907 (by decide) rfl (n := 1909) rfl ?_
  refine x_aload_nr 3 dL_law_1909 rfl rfl (n := 1910) rfl ?_
  refine x_aload_nr 1 dL_law_1910 rfl rfl (n := 1911) rfl ?_
  refine x_iload 5 dL_law_1911 rfl (n := 1913) rfl ?_
  refine x_iconst 1 dL_law_1913 rfl (n := 1914) rfl ?_
  refine x_iadd dL_law_1914 (n := 1915) rfl ?_
  refine x_iald (t := 0) rfl dL_law_1915 (n := 1916) rfl (fun x372 => ?_)
  refine x_aload_nr 1 dL_law_1916 rfl rfl (n := 1917) rfl ?_
  refine x_iload 5 dL_law_1917 rfl (n := 1919) rfl ?_
  refine x_iconst 2 dL_law_1919 rfl (n := 1920) rfl ?_
  refine x_iadd dL_law_1920 (n := 1921) rfl ?_
  refine x_iald (t := 0) rfl dL_law_1921 (n := 1922) rfl (fun x373 => ?_)
  refine x_if_eq dL_law_1922 (t := 1929) (by decide) (n := 1925) rfl (fun _ => ?_) (fun _ => ?_)
  · refine x_iconst 0 dL_law_1929 rfl (n := 1930) rfl ?_
    refine x_sub [1, 2, 3, 4, 5, 0] [(0, .ref v0), (1, .ref v1), (2, .ref v2), (3, .ref v3), (4, .int v4), (5, .int x371)] rfl ?_
    exact f_L_law_1930_ok hO hk23 v0 v1 v2 v3 v4 x371 v2 x372 0 p370
  · refine x_iconst 1 dL_law_1925 rfl (n := 1926) rfl ?_
    refine x_goto dL_law_1926 (n := 1930) (by decide) ?_
    refine x_sub [1, 2, 3, 4, 5, 0] [(0, .ref v0), (1, .ref v1), (2, .ref v2), (3, .ref v3), (4, .int v4), (5, .int x371)] rfl ?_
    exact f_L_law_1930_ok hO hk23 v0 v1 v2 v3 v4 x371 v2 x372 1 p370
theorem f_L_law_23F_ok {G : xG} (hO : xOK G)   {k23 : Nat × Nat × Nat × Nat × Int32 × PH → Option (xO × PH)} (hk23 : ∀ (v0 : Nat) (v1 : Nat) (v2 : Nat) (v3 : Nat) (v4 : Int32) (p0 : PH), X G "ForestLegsLaw" "law" cL_law 7 (Option.some Jvm.ClassFile.FieldType.boolean) 62 23 [(0, .ref v0), (1, .ref v1), (2, .ref v2), (3, .ref v3), (4, .int v4)] [] p0 (k23 (v0, v1, v2, v3, v4, p0))) (v0 : Nat) (v1 : Nat) (v2 : Nat) (v3 : Nat) (v4 : Int32) (p0 : PH) : X G "ForestLegsLaw" "law" cL_law 7 (Option.some Jvm.ClassFile.FieldType.boolean) 62 23 [(0, .ref v0), (1, .ref v1), (2, .ref v2), (3, .ref v3), (4, .int v4)] [] p0 (f_L_law_23F k23 (v0, v1, v2, v3, v4, p0)) := by
  unfold f_L_law_23F
  refine x_iload 4 dL_law_23 rfl (n := 25) rfl ?_
  refine x_aload_nr 0 dL_law_25 rfl rfl (n := 26) rfl ?_
  refine x_alen dL_law_26 (n := 27) rfl (fun x9 => ?_)
  refine x_bipush 6 dL_law_27 rfl (n := 29) rfl ?_
  refine x_isub dL_law_29 (n := 30) rfl ?_
  refine x_icmp_gt dL_law_30 (t := 1998) (by decide) (n := 33) rfl (fun _ => ?_) (fun _ => ?_)
  · refine x_iconst 1 dL_law_1998 rfl (n := 1999) rfl ?_
    exact x_nreturn rfl dL_law_1999
  · refine x_aload_nr 0 dL_law_33 rfl rfl (n := 34) rfl ?_
    refine x_iload 4 dL_law_34 rfl (n := 36) rfl ?_
    refine x_iald (t := 0) rfl dL_law_36 (n := 37) rfl (fun x10 => ?_)
    refine x_bipush 63 dL_law_37 rfl (n := 39) rfl ?_
    refine x_iand dL_law_39 (n := 40) rfl ?_
    refine x_tab [252, 325, 350, 363, 376, 401, 438, 475, 512, 561, 598, 623, 648, 697, 746, 795, 832, 857, 894, 919, 944, 981, 1006, 1031, 1068, 1117, 1154, 1179, 1228, 1265, 1290, 1339, 1376, 1401, 1438, 1463, 1512, 1549, 1598, 1635, 1672, 1709, 1746, 1783, 1832, 1869, 1882, 1966, 1979] dL_law_40 rfl rfl (td := 1992) (by decide) ?_ ⟨?_, ?_, ?_, ?_, ?_, ?_, ?_, ?_, ?_, ?_, ?_, ?_, ?_, ?_, ?_, ?_, ?_, ?_, ?_, ?_, ?_, ?_, ?_, ?_, ?_, ?_, ?_, ?_, ?_, ?_, ?_, ?_, ?_, ?_, ?_, ?_, ?_, ?_, ?_, ?_, ?_, ?_, ?_, ?_, ?_, ?_, ?_, ?_, ?_, trivial⟩
    · exact f_L_law_1992_ok hO hk23 v0 v1 v2 v3 v4 p0
    · refine x_aload_nr 1 dL_law_252 rfl rfl (n := 253) rfl ?_
      refine x_aload_nr 0 dL_law_253 rfl rfl (n := 254) rfl ?_
      refine x_iload 4 dL_law_254 rfl (n := 256) rfl ?_
      refine x_iconst 1 dL_law_256 rfl (n := 257) rfl ?_
      refine x_iadd dL_law_257 (n := 258) rfl ?_
      refine x_iald (t := 0) rfl dL_law_258 (n := 259) rfl (fun x12 => ?_)
      refine x_aload_nr 0 dL_law_259 rfl rfl (n := 260) rfl ?_
      refine x_iload 4 dL_law_260 rfl (n := 262) rfl ?_
      refine x_iconst 2 dL_law_262 rfl (n := 263) rfl ?_
      refine x_iadd dL_law_263 (n := 264) rfl ?_
      refine x_iald (t := 0) rfl dL_law_264 (n := 265) rfl (fun x13 => ?_)
      refine x_aload_nr 0 dL_law_265 rfl rfl (n := 266) rfl ?_
      refine x_iload 4 dL_law_266 rfl (n := 268) rfl ?_
      refine x_iconst 3 dL_law_268 rfl (n := 269) rfl ?_
      refine x_iadd dL_law_269 (n := 270) rfl ?_
      refine x_iald (t := 0) rfl dL_law_270 (n := 271) rfl (fun x14 => ?_)
      refine x_aload_nr 0 dL_law_271 rfl rfl (n := 272) rfl ?_
      refine x_iload 4 dL_law_272 rfl (n := 274) rfl ?_
      refine x_iconst 4 dL_law_274 rfl (n := 275) rfl ?_
      refine x_iadd dL_law_275 (n := 276) rfl ?_
      refine x_iald (t := 0) rfl dL_law_276 (n := 277) rfl (fun x15 => ?_)
      refine x_aload_nr 0 dL_law_277 rfl rfl (n := 278) rfl ?_
      refine x_iload 4 dL_law_278 rfl (n := 280) rfl ?_
      refine x_iconst 5 dL_law_280 rfl (n := 281) rfl ?_
      refine x_iadd dL_law_281 (n := 282) rfl ?_
      refine x_iald (t := 0) rfl dL_law_282 (n := 283) rfl (fun x16 => ?_)
      refine x_callV_I [.int x12, .int x13, .int x14, .int x15, .int x16] [] (f_X1_feed_ok hO p0 v1 x12 x13 x14 x15 x16) rc_X1_feed md_X1_feed rfl q237 q238 q239 dL_law_283 rfl rfl (by decide) (Nat.le_of_ble_eq_true rfl) (n := 286) rfl (fun x18 p17 => ?_)
      refine x_aload_nr 2 dL_law_286 rfl rfl (n := 287) rfl ?_
      refine x_aload_nr 0 dL_law_287 rfl rfl (n := 288) rfl ?_
      refine x_iload 4 dL_law_288 rfl (n := 290) rfl ?_
      refine x_iconst 1 dL_law_290 rfl (n := 291) rfl ?_
      refine x_iadd dL_law_291 (n := 292) rfl ?_
      refine x_iald (t := 0) rfl dL_law_292 (n := 293) rfl (fun x19 => ?_)
      refine x_aload_nr 0 dL_law_293 rfl rfl (n := 294) rfl ?_
      refine x_iload 4 dL_law_294 rfl (n := 296) rfl ?_
      refine x_iconst 2 dL_law_296 rfl (n := 297) rfl ?_
      refine x_iadd dL_law_297 (n := 298) rfl ?_
      refine x_iald (t := 0) rfl dL_law_298 (n := 299) rfl (fun x20 => ?_)
      refine x_aload_nr 0 dL_law_299 rfl rfl (n := 300) rfl ?_
      refine x_iload 4 dL_law_300 rfl (n := 302) rfl ?_
      refine x_iconst 3 dL_law_302 rfl (n := 303) rfl ?_
      refine x_iadd dL_law_303 (n := 304) rfl ?_
      refine x_iald (t := 0) rfl dL_law_304 (n := 305) rfl (fun x21 => ?_)
      refine x_aload_nr 0 dL_law_305 rfl rfl (n := 306) rfl ?_
      refine x_iload 4 dL_law_306 rfl (n := 308) rfl ?_
      refine x_iconst 4 dL_law_308 rfl (n := 309) rfl ?_
      refine x_iadd dL_law_309 (n := 310) rfl ?_
      refine x_iald (t := 0) rfl dL_law_310 (n := 311) rfl (fun x22 => ?_)
      refine x_aload_nr 0 dL_law_311 rfl rfl (n := 312) rfl ?_
      refine x_iload 4 dL_law_312 rfl (n := 314) rfl ?_
      refine x_iconst 5 dL_law_314 rfl (n := 315) rfl ?_
      refine x_iadd dL_law_315 (n := 316) rfl ?_
      refine x_iald (t := 0) rfl dL_law_316 (n := 317) rfl (fun x23 => ?_)
      refine x_callV_I [.int x19, .int x20, .int x21, .int x22, .int x23] [.int x18] (g_feed_ok hO p17 v2 x19 x20 x21 x22 x23) rc_X2_feed md_X2_feed rfl q3004 q3005 q3006 dL_law_317 rfl rfl (by decide) (Nat.le_of_ble_eq_true rfl) (n := 320) rfl (fun x25 p24 => ?_)
      refine x_icmp_eq dL_law_320 (t := 1992) (by decide) (n := 323) rfl (fun _ => ?_) (fun _ => ?_)
      · exact f_L_law_1992_ok hO hk23 v0 v1 v2 v3 v4 p24
      · refine x_iconst 0 dL_law_323 rfl (n := 324) rfl ?_
        exact x_nreturn rfl dL_law_324
    · refine x_aload_nr 1 dL_law_325 rfl rfl (n := 326) rfl ?_
      refine x_aload_nr 0 dL_law_326 rfl rfl (n := 327) rfl ?_
      refine x_iload 4 dL_law_327 rfl (n := 329) rfl ?_
      refine x_iconst 1 dL_law_329 rfl (n := 330) rfl ?_
      refine x_iadd dL_law_330 (n := 331) rfl ?_
      refine x_iald (t := 0) rfl dL_law_331 (n := 332) rfl (fun x26 => ?_)
      refine x_callVW_I [.int x26] [] (f_X1_text_ok hO p0 v1 x26) rc_X1_text md_X1_text rfl q242 q243 q244 dL_law_332 rfl rfl (by decide) (Nat.le_of_ble_eq_true rfl) (n := 335) rfl (fun x28 p27 => ?_)
      refine x_aload_nr 2 dL_law_335 rfl rfl (n := 336) rfl ?_
      refine x_aload_nr 0 dL_law_336 rfl rfl (n := 337) rfl ?_
      refine x_iload 4 dL_law_337 rfl (n := 339) rfl ?_
      refine x_iconst 1 dL_law_339 rfl (n := 340) rfl ?_
      refine x_iadd dL_law_340 (n := 341) rfl ?_
      refine x_iald (t := 0) rfl dL_law_341 (n := 342) rfl (fun x29 => ?_)
      refine x_callV_I [.int x29] [.int x28] (g_text_ok hO p27 v2 x29) rc_X2_text md_X2_text rfl q3012 q3013 q3014 dL_law_342 rfl rfl (by decide) (Nat.le_of_ble_eq_true rfl) (n := 345) rfl (fun x31 p30 => ?_)
      refine x_icmp_eq dL_law_345 (t := 1992) (by decide) (n := 348) rfl (fun _ => ?_) (fun _ => ?_)
      · exact f_L_law_1992_ok hO hk23 v0 v1 v2 v3 v4 p30
      · refine x_iconst 0 dL_law_348 rfl (n := 349) rfl ?_
        exact x_nreturn rfl dL_law_349
    · refine x_aload_nr 1 dL_law_350 rfl rfl (n := 351) rfl ?_
      refine x_callV_I [] [] (f_X1_fault_ok hO p0 v1 ) rc_X1_fault md_X1_fault rfl q1484 q1485 q1486 dL_law_351 rfl rfl (by decide) (Nat.le_of_ble_eq_true rfl) (n := 354) rfl (fun x33 p32 => ?_)
      refine x_aload_nr 2 dL_law_354 rfl rfl (n := 355) rfl ?_
      refine x_callV_I [] [.int x33] (g_fault_ok hO p32 v2 ) rc_X2_fault md_X2_fault rfl q3109 q3110 q3111 dL_law_355 rfl rfl (by decide) (Nat.le_of_ble_eq_true rfl) (n := 358) rfl (fun x35 p34 => ?_)
      refine x_icmp_eq dL_law_358 (t := 1992) (by decide) (n := 361) rfl (fun _ => ?_) (fun _ => ?_)
      · exact f_L_law_1992_ok hO hk23 v0 v1 v2 v3 v4 p34
      · refine x_iconst 0 dL_law_361 rfl (n := 362) rfl ?_
        exact x_nreturn rfl dL_law_362
    · refine x_aload_nr 1 dL_law_363 rfl rfl (n := 364) rfl ?_
      refine x_callV_I [] [] (f_X1_where_ok hO p0 v1 ) rc_X1_where md_X1_where rfl q1488 q1489 q1490 dL_law_364 rfl rfl (by decide) (Nat.le_of_ble_eq_true rfl) (n := 367) rfl (fun x37 p36 => ?_)
      refine x_aload_nr 2 dL_law_367 rfl rfl (n := 368) rfl ?_
      refine x_callV_I [] [.int x37] (g_where_ok hO p36 v2 ) rc_X2_where md_X2_where rfl q3113 q3114 q3115 dL_law_368 rfl rfl (by decide) (Nat.le_of_ble_eq_true rfl) (n := 371) rfl (fun x39 p38 => ?_)
      refine x_icmp_eq dL_law_371 (t := 1992) (by decide) (n := 374) rfl (fun _ => ?_) (fun _ => ?_)
      · exact f_L_law_1992_ok hO hk23 v0 v1 v2 v3 v4 p38
      · refine x_iconst 0 dL_law_374 rfl (n := 375) rfl ?_
        exact x_nreturn rfl dL_law_375
    · refine x_aload_nr 1 dL_law_376 rfl rfl (n := 377) rfl ?_
      refine x_aload_nr 0 dL_law_377 rfl rfl (n := 378) rfl ?_
      refine x_iload 4 dL_law_378 rfl (n := 380) rfl ?_
      refine x_iconst 1 dL_law_380 rfl (n := 381) rfl ?_
      refine x_iadd dL_law_381 (n := 382) rfl ?_
      refine x_iald (t := 0) rfl dL_law_382 (n := 383) rfl (fun x40 => ?_)
      refine x_callV_I [.int x40] [] (f_X1_about_ok hO p0 v1 x40) rc_X1_about md_X1_about rfl q1492 q1493 q1494 dL_law_383 rfl rfl (by decide) (Nat.le_of_ble_eq_true rfl) (n := 386) rfl (fun x42 p41 => ?_)
      refine x_aload_nr 2 dL_law_386 rfl rfl (n := 387) rfl ?_
      refine x_aload_nr 0 dL_law_387 rfl rfl (n := 388) rfl ?_
      refine x_iload 4 dL_law_388 rfl (n := 390) rfl ?_
      refine x_iconst 1 dL_law_390 rfl (n := 391) rfl ?_
      refine x_iadd dL_law_391 (n := 392) rfl ?_
      refine x_iald (t := 0) rfl dL_law_392 (n := 393) rfl (fun x43 => ?_)
      refine x_callV_I [.int x43] [.int x42] (g_about_ok hO p41 v2 x43) rc_X2_about md_X2_about rfl q3117 q3118 q3119 dL_law_393 rfl rfl (by decide) (Nat.le_of_ble_eq_true rfl) (n := 396) rfl (fun x45 p44 => ?_)
      refine x_icmp_eq dL_law_396 (t := 1992) (by decide) (n := 399) rfl (fun _ => ?_) (fun _ => ?_)
      · exact f_L_law_1992_ok hO hk23 v0 v1 v2 v3 v4 p44
      · refine x_iconst 0 dL_law_399 rfl (n := 400) rfl ?_
        exact x_nreturn rfl dL_law_400
    · refine x_aload_nr 1 dL_law_401 rfl rfl (n := 402) rfl ?_
      refine x_aload_nr 0 dL_law_402 rfl rfl (n := 403) rfl ?_
      refine x_iload 4 dL_law_403 rfl (n := 405) rfl ?_
      refine x_iconst 1 dL_law_405 rfl (n := 406) rfl ?_
      refine x_iadd dL_law_406 (n := 407) rfl ?_
      refine x_iald (t := 0) rfl dL_law_407 (n := 408) rfl (fun x46 => ?_)
      refine x_aload_nr 0 dL_law_408 rfl rfl (n := 409) rfl ?_
      refine x_iload 4 dL_law_409 rfl (n := 411) rfl ?_
      refine x_iconst 2 dL_law_411 rfl (n := 412) rfl ?_
      refine x_iadd dL_law_412 (n := 413) rfl ?_
      refine x_iald (t := 0) rfl dL_law_413 (n := 414) rfl (fun x47 => ?_)
      refine x_callV_I [.int x46, .int x47] [] (f_X1_course_ok hO p0 v1 x46 x47) rc_X1_course md_X1_course rfl q1562 q1563 q1564 dL_law_414 rfl rfl (by decide) (Nat.le_of_ble_eq_true rfl) (n := 417) rfl (fun x49 p48 => ?_)
      refine x_aload_nr 2 dL_law_417 rfl rfl (n := 418) rfl ?_
      refine x_aload_nr 0 dL_law_418 rfl rfl (n := 419) rfl ?_
      refine x_iload 4 dL_law_419 rfl (n := 421) rfl ?_
      refine x_iconst 1 dL_law_421 rfl (n := 422) rfl ?_
      refine x_iadd dL_law_422 (n := 423) rfl ?_
      refine x_iald (t := 0) rfl dL_law_423 (n := 424) rfl (fun x50 => ?_)
      refine x_aload_nr 0 dL_law_424 rfl rfl (n := 425) rfl ?_
      refine x_iload 4 dL_law_425 rfl (n := 427) rfl ?_
      refine x_iconst 2 dL_law_427 rfl (n := 428) rfl ?_
      refine x_iadd dL_law_428 (n := 429) rfl ?_
      refine x_iald (t := 0) rfl dL_law_429 (n := 430) rfl (fun x51 => ?_)
      refine x_callV_I [.int x50, .int x51] [.int x49] (g_course_ok hO p48 v2 x50 x51) rc_X2_course md_X2_course rfl q3155 q3156 q3157 dL_law_430 rfl rfl (by decide) (Nat.le_of_ble_eq_true rfl) (n := 433) rfl (fun x53 p52 => ?_)
      refine x_icmp_eq dL_law_433 (t := 1992) (by decide) (n := 436) rfl (fun _ => ?_) (fun _ => ?_)
      · exact f_L_law_1992_ok hO hk23 v0 v1 v2 v3 v4 p52
      · refine x_iconst 0 dL_law_436 rfl (n := 437) rfl ?_
        exact x_nreturn rfl dL_law_437
    · refine x_aload_nr 1 dL_law_438 rfl rfl (n := 439) rfl ?_
      refine x_aload_nr 0 dL_law_439 rfl rfl (n := 440) rfl ?_
      refine x_iload 4 dL_law_440 rfl (n := 442) rfl ?_
      refine x_iconst 1 dL_law_442 rfl (n := 443) rfl ?_
      refine x_iadd dL_law_443 (n := 444) rfl ?_
      refine x_iald (t := 0) rfl dL_law_444 (n := 445) rfl (fun x54 => ?_)
      refine x_aload_nr 0 dL_law_445 rfl rfl (n := 446) rfl ?_
      refine x_iload 4 dL_law_446 rfl (n := 448) rfl ?_
      refine x_iconst 2 dL_law_448 rfl (n := 449) rfl ?_
      refine x_iadd dL_law_449 (n := 450) rfl ?_
      refine x_iald (t := 0) rfl dL_law_450 (n := 451) rfl (fun x55 => ?_)
      refine x_callV_I [.int x54, .int x55] [] (f_X1_code_ok hO p0 v1 x54 x55) rc_X1_code md_X1_code rfl q1767 q1768 q1769 dL_law_451 rfl rfl (by decide) (Nat.le_of_ble_eq_true rfl) (n := 454) rfl (fun x57 p56 => ?_)
      refine x_aload_nr 2 dL_law_454 rfl rfl (n := 455) rfl ?_
      refine x_aload_nr 0 dL_law_455 rfl rfl (n := 456) rfl ?_
      refine x_iload 4 dL_law_456 rfl (n := 458) rfl ?_
      refine x_iconst 1 dL_law_458 rfl (n := 459) rfl ?_
      refine x_iadd dL_law_459 (n := 460) rfl ?_
      refine x_iald (t := 0) rfl dL_law_460 (n := 461) rfl (fun x58 => ?_)
      refine x_aload_nr 0 dL_law_461 rfl rfl (n := 462) rfl ?_
      refine x_iload 4 dL_law_462 rfl (n := 464) rfl ?_
      refine x_iconst 2 dL_law_464 rfl (n := 465) rfl ?_
      refine x_iadd dL_law_465 (n := 466) rfl ?_
      refine x_iald (t := 0) rfl dL_law_466 (n := 467) rfl (fun x59 => ?_)
      refine x_callV_I [.int x58, .int x59] [.int x57] (g_code_ok hO p56 v2 x58 x59) rc_X2_code md_X2_code rfl q3203 q3204 q3205 dL_law_467 rfl rfl (by decide) (Nat.le_of_ble_eq_true rfl) (n := 470) rfl (fun x61 p60 => ?_)
      refine x_icmp_eq dL_law_470 (t := 1992) (by decide) (n := 473) rfl (fun _ => ?_) (fun _ => ?_)
      · exact f_L_law_1992_ok hO hk23 v0 v1 v2 v3 v4 p60
      · refine x_iconst 0 dL_law_473 rfl (n := 474) rfl ?_
        exact x_nreturn rfl dL_law_474
    · refine x_aload_nr 1 dL_law_475 rfl rfl (n := 476) rfl ?_
      refine x_aload_nr 0 dL_law_476 rfl rfl (n := 477) rfl ?_
      refine x_iload 4 dL_law_477 rfl (n := 479) rfl ?_
      refine x_iconst 1 dL_law_479 rfl (n := 480) rfl ?_
      refine x_iadd dL_law_480 (n := 481) rfl ?_
      refine x_iald (t := 0) rfl dL_law_481 (n := 482) rfl (fun x62 => ?_)
      refine x_aload_nr 0 dL_law_482 rfl rfl (n := 483) rfl ?_
      refine x_iload 4 dL_law_483 rfl (n := 485) rfl ?_
      refine x_iconst 2 dL_law_485 rfl (n := 486) rfl ?_
      refine x_iadd dL_law_486 (n := 487) rfl ?_
      refine x_iald (t := 0) rfl dL_law_487 (n := 488) rfl (fun x63 => ?_)
      refine x_callV_I [.int x62, .int x63] [] (f_X1_runner_ok hO p0 v1 x62 x63) rc_X1_runner md_X1_runner rfl q1776 q1777 q1778 dL_law_488 rfl rfl (by decide) (Nat.le_of_ble_eq_true rfl) (n := 491) rfl (fun x65 p64 => ?_)
      refine x_aload_nr 2 dL_law_491 rfl rfl (n := 492) rfl ?_
      refine x_aload_nr 0 dL_law_492 rfl rfl (n := 493) rfl ?_
      refine x_iload 4 dL_law_493 rfl (n := 495) rfl ?_
      refine x_iconst 1 dL_law_495 rfl (n := 496) rfl ?_
      refine x_iadd dL_law_496 (n := 497) rfl ?_
      refine x_iald (t := 0) rfl dL_law_497 (n := 498) rfl (fun x66 => ?_)
      refine x_aload_nr 0 dL_law_498 rfl rfl (n := 499) rfl ?_
      refine x_iload 4 dL_law_499 rfl (n := 501) rfl ?_
      refine x_iconst 2 dL_law_501 rfl (n := 502) rfl ?_
      refine x_iadd dL_law_502 (n := 503) rfl ?_
      refine x_iald (t := 0) rfl dL_law_503 (n := 504) rfl (fun x67 => ?_)
      refine x_callV_I [.int x66, .int x67] [.int x65] (g_runner_ok hO p64 v2 x66 x67) rc_X2_runner md_X2_runner rfl q3211 q3212 q3213 dL_law_504 rfl rfl (by decide) (Nat.le_of_ble_eq_true rfl) (n := 507) rfl (fun x69 p68 => ?_)
      refine x_icmp_eq dL_law_507 (t := 1992) (by decide) (n := 510) rfl (fun _ => ?_) (fun _ => ?_)
      · exact f_L_law_1992_ok hO hk23 v0 v1 v2 v3 v4 p68
      · refine x_iconst 0 dL_law_510 rfl (n := 511) rfl ?_
        exact x_nreturn rfl dL_law_511
    · refine x_aload_nr 1 dL_law_512 rfl rfl (n := 513) rfl ?_
      refine x_aload_nr 0 dL_law_513 rfl rfl (n := 514) rfl ?_
      refine x_iload 4 dL_law_514 rfl (n := 516) rfl ?_
      refine x_iconst 1 dL_law_516 rfl (n := 517) rfl ?_
      refine x_iadd dL_law_517 (n := 518) rfl ?_
      refine x_iald (t := 0) rfl dL_law_518 (n := 519) rfl (fun x70 => ?_)
      refine x_aload_nr 0 dL_law_519 rfl rfl (n := 520) rfl ?_
      refine x_iload 4 dL_law_520 rfl (n := 522) rfl ?_
      refine x_iconst 2 dL_law_522 rfl (n := 523) rfl ?_
      refine x_iadd dL_law_523 (n := 524) rfl ?_
      refine x_iald (t := 0) rfl dL_law_524 (n := 525) rfl (fun x71 => ?_)
      refine x_aload_nr 0 dL_law_525 rfl rfl (n := 526) rfl ?_
      refine x_iload 4 dL_law_526 rfl (n := 528) rfl ?_
      refine x_iconst 3 dL_law_528 rfl (n := 529) rfl ?_
      refine x_iadd dL_law_529 (n := 530) rfl ?_
      refine x_iald (t := 0) rfl dL_law_530 (n := 531) rfl (fun x72 => ?_)
      refine x_callV_I [.int x70, .int x71, .int x72] [] (f_X1_punch_ok hO p0 v1 x70 x71 x72) rc_X1_punch md_X1_punch rfl q1945 q1946 q1947 dL_law_531 rfl rfl (by decide) (Nat.le_of_ble_eq_true rfl) (n := 534) rfl (fun x74 p73 => ?_)
      refine x_aload_nr 2 dL_law_534 rfl rfl (n := 535) rfl ?_
      refine x_aload_nr 0 dL_law_535 rfl rfl (n := 536) rfl ?_
      refine x_iload 4 dL_law_536 rfl (n := 538) rfl ?_
      refine x_iconst 1 dL_law_538 rfl (n := 539) rfl ?_
      refine x_iadd dL_law_539 (n := 540) rfl ?_
      refine x_iald (t := 0) rfl dL_law_540 (n := 541) rfl (fun x75 => ?_)
      refine x_aload_nr 0 dL_law_541 rfl rfl (n := 542) rfl ?_
      refine x_iload 4 dL_law_542 rfl (n := 544) rfl ?_
      refine x_iconst 2 dL_law_544 rfl (n := 545) rfl ?_
      refine x_iadd dL_law_545 (n := 546) rfl ?_
      refine x_iald (t := 0) rfl dL_law_546 (n := 547) rfl (fun x76 => ?_)
      refine x_aload_nr 0 dL_law_547 rfl rfl (n := 548) rfl ?_
      refine x_iload 4 dL_law_548 rfl (n := 550) rfl ?_
      refine x_iconst 3 dL_law_550 rfl (n := 551) rfl ?_
      refine x_iadd dL_law_551 (n := 552) rfl ?_
      refine x_iald (t := 0) rfl dL_law_552 (n := 553) rfl (fun x77 => ?_)
      refine x_callV_I [.int x75, .int x76, .int x77] [.int x74] (g_punch_ok hO p73 v2 x75 x76 x77) rc_X2_punch md_X2_punch rfl q3223 q3224 q3225 dL_law_553 rfl rfl (by decide) (Nat.le_of_ble_eq_true rfl) (n := 556) rfl (fun x79 p78 => ?_)
      refine x_icmp_eq dL_law_556 (t := 1992) (by decide) (n := 559) rfl (fun _ => ?_) (fun _ => ?_)
      · exact f_L_law_1992_ok hO hk23 v0 v1 v2 v3 v4 p78
      · refine x_iconst 0 dL_law_559 rfl (n := 560) rfl ?_
        exact x_nreturn rfl dL_law_560
    · refine x_aload_nr 1 dL_law_561 rfl rfl (n := 562) rfl ?_
      refine x_aload_nr 0 dL_law_562 rfl rfl (n := 563) rfl ?_
      refine x_iload 4 dL_law_563 rfl (n := 565) rfl ?_
      refine x_iconst 1 dL_law_565 rfl (n := 566) rfl ?_
      refine x_iadd dL_law_566 (n := 567) rfl ?_
      refine x_iald (t := 0) rfl dL_law_567 (n := 568) rfl (fun x80 => ?_)
      refine x_aload_nr 0 dL_law_568 rfl rfl (n := 569) rfl ?_
      refine x_iload 4 dL_law_569 rfl (n := 571) rfl ?_
      refine x_iconst 2 dL_law_571 rfl (n := 572) rfl ?_
      refine x_iadd dL_law_572 (n := 573) rfl ?_
      refine x_iald (t := 0) rfl dL_law_573 (n := 574) rfl (fun x81 => ?_)
      refine x_callV_I [.int x80, .int x81] [] (f_X1_misses_ok hO p0 v1 x80 x81) rc_X1_misses md_X1_misses rfl q1958 q1959 q1960 dL_law_574 rfl rfl (by decide) (Nat.le_of_ble_eq_true rfl) (n := 577) rfl (fun x83 p82 => ?_)
      refine x_aload_nr 2 dL_law_577 rfl rfl (n := 578) rfl ?_
      refine x_aload_nr 0 dL_law_578 rfl rfl (n := 579) rfl ?_
      refine x_iload 4 dL_law_579 rfl (n := 581) rfl ?_
      refine x_iconst 1 dL_law_581 rfl (n := 582) rfl ?_
      refine x_iadd dL_law_582 (n := 583) rfl ?_
      refine x_iald (t := 0) rfl dL_law_583 (n := 584) rfl (fun x84 => ?_)
      refine x_aload_nr 0 dL_law_584 rfl rfl (n := 585) rfl ?_
      refine x_iload 4 dL_law_585 rfl (n := 587) rfl ?_
      refine x_iconst 2 dL_law_587 rfl (n := 588) rfl ?_
      refine x_iadd dL_law_588 (n := 589) rfl ?_
      refine x_iald (t := 0) rfl dL_law_589 (n := 590) rfl (fun x85 => ?_)
      refine x_callV_I [.int x84, .int x85] [.int x83] (g_misses_ok hO p82 v2 x84 x85) rc_X2_misses md_X2_misses rfl q3231 q3232 q3233 dL_law_590 rfl rfl (by decide) (Nat.le_of_ble_eq_true rfl) (n := 593) rfl (fun x87 p86 => ?_)
      refine x_icmp_eq dL_law_593 (t := 1992) (by decide) (n := 596) rfl (fun _ => ?_) (fun _ => ?_)
      · exact f_L_law_1992_ok hO hk23 v0 v1 v2 v3 v4 p86
      · refine x_iconst 0 dL_law_596 rfl (n := 597) rfl ?_
        exact x_nreturn rfl dL_law_597
    · refine x_aload_nr 1 dL_law_598 rfl rfl (n := 599) rfl ?_
      refine x_aload_nr 0 dL_law_599 rfl rfl (n := 600) rfl ?_
      refine x_iload 4 dL_law_600 rfl (n := 602) rfl ?_
      refine x_iconst 1 dL_law_602 rfl (n := 603) rfl ?_
      refine x_iadd dL_law_603 (n := 604) rfl ?_
      refine x_iald (t := 0) rfl dL_law_604 (n := 605) rfl (fun x88 => ?_)
      refine x_callV_I [.int x88] [] (f_X1_fits_ok hO p0 v1 x88) rc_X1_fits md_X1_fits rfl q1968 q1969 q1970 dL_law_605 rfl rfl (by decide) (Nat.le_of_ble_eq_true rfl) (n := 608) rfl (fun x90 p89 => ?_)
      refine x_aload_nr 2 dL_law_608 rfl rfl (n := 609) rfl ?_
      refine x_aload_nr 0 dL_law_609 rfl rfl (n := 610) rfl ?_
      refine x_iload 4 dL_law_610 rfl (n := 612) rfl ?_
      refine x_iconst 1 dL_law_612 rfl (n := 613) rfl ?_
      refine x_iadd dL_law_613 (n := 614) rfl ?_
      refine x_iald (t := 0) rfl dL_law_614 (n := 615) rfl (fun x91 => ?_)
      refine x_callV_I [.int x91] [.int x90] (g_fits_ok hO p89 v2 x91) rc_X2_fits md_X2_fits rfl q3235 q3236 q3237 dL_law_615 rfl rfl (by decide) (Nat.le_of_ble_eq_true rfl) (n := 618) rfl (fun x93 p92 => ?_)
      refine x_icmp_eq dL_law_618 (t := 1992) (by decide) (n := 621) rfl (fun _ => ?_) (fun _ => ?_)
      · exact f_L_law_1992_ok hO hk23 v0 v1 v2 v3 v4 p92
      · refine x_iconst 0 dL_law_621 rfl (n := 622) rfl ?_
        exact x_nreturn rfl dL_law_622
    · refine x_aload_nr 1 dL_law_623 rfl rfl (n := 624) rfl ?_
      refine x_aload_nr 0 dL_law_624 rfl rfl (n := 625) rfl ?_
      refine x_iload 4 dL_law_625 rfl (n := 627) rfl ?_
      refine x_iconst 1 dL_law_627 rfl (n := 628) rfl ?_
      refine x_iadd dL_law_628 (n := 629) rfl ?_
      refine x_iald (t := 0) rfl dL_law_629 (n := 630) rfl (fun x94 => ?_)
      refine x_callV_I [.int x94] [] (f_X1_missed_ok hO p0 v1 x94) rc_X1_missed md_X1_missed rfl q1972 q1973 q1974 dL_law_630 rfl rfl (by decide) (Nat.le_of_ble_eq_true rfl) (n := 633) rfl (fun x96 p95 => ?_)
      refine x_aload_nr 2 dL_law_633 rfl rfl (n := 634) rfl ?_
      refine x_aload_nr 0 dL_law_634 rfl rfl (n := 635) rfl ?_
      refine x_iload 4 dL_law_635 rfl (n := 637) rfl ?_
      refine x_iconst 1 dL_law_637 rfl (n := 638) rfl ?_
      refine x_iadd dL_law_638 (n := 639) rfl ?_
      refine x_iald (t := 0) rfl dL_law_639 (n := 640) rfl (fun x97 => ?_)
      refine x_callV_I [.int x97] [.int x96] (g_missed_ok hO p95 v2 x97) rc_X2_missed md_X2_missed rfl q3239 q3240 q3241 dL_law_640 rfl rfl (by decide) (Nat.le_of_ble_eq_true rfl) (n := 643) rfl (fun x99 p98 => ?_)
      refine x_icmp_eq dL_law_643 (t := 1992) (by decide) (n := 646) rfl (fun _ => ?_) (fun _ => ?_)
      · exact f_L_law_1992_ok hO hk23 v0 v1 v2 v3 v4 p98
      · refine x_iconst 0 dL_law_646 rfl (n := 647) rfl ?_
        exact x_nreturn rfl dL_law_647
    · refine x_aload_nr 1 dL_law_648 rfl rfl (n := 649) rfl ?_
      refine x_aload_nr 0 dL_law_649 rfl rfl (n := 650) rfl ?_
      refine x_iload 4 dL_law_650 rfl (n := 652) rfl ?_
      refine x_iconst 1 dL_law_652 rfl (n := 653) rfl ?_
      refine x_iadd dL_law_653 (n := 654) rfl ?_
      refine x_iald (t := 0) rfl dL_law_654 (n := 655) rfl (fun x100 => ?_)
      refine x_aload_nr 0 dL_law_655 rfl rfl (n := 656) rfl ?_
      refine x_iload 4 dL_law_656 rfl (n := 658) rfl ?_
      refine x_iconst 2 dL_law_658 rfl (n := 659) rfl ?_
      refine x_iadd dL_law_659 (n := 660) rfl ?_
      refine x_iald (t := 0) rfl dL_law_660 (n := 661) rfl (fun x101 => ?_)
      refine x_aload_nr 0 dL_law_661 rfl rfl (n := 662) rfl ?_
      refine x_iload 4 dL_law_662 rfl (n := 664) rfl ?_
      refine x_iconst 3 dL_law_664 rfl (n := 665) rfl ?_
      refine x_iadd dL_law_665 (n := 666) rfl ?_
      refine x_iald (t := 0) rfl dL_law_666 (n := 667) rfl (fun x102 => ?_)
      refine x_callV_I [.int x100, .int x101, .int x102] [] (f_X1_split_ok hO p0 v1 x100 x101 x102) rc_X1_split md_X1_split rfl q1976 q1977 q1978 dL_law_667 rfl rfl (by decide) (Nat.le_of_ble_eq_true rfl) (n := 670) rfl (fun x104 p103 => ?_)
      refine x_aload_nr 2 dL_law_670 rfl rfl (n := 671) rfl ?_
      refine x_aload_nr 0 dL_law_671 rfl rfl (n := 672) rfl ?_
      refine x_iload 4 dL_law_672 rfl (n := 674) rfl ?_
      refine x_iconst 1 dL_law_674 rfl (n := 675) rfl ?_
      refine x_iadd dL_law_675 (n := 676) rfl ?_
      refine x_iald (t := 0) rfl dL_law_676 (n := 677) rfl (fun x105 => ?_)
      refine x_aload_nr 0 dL_law_677 rfl rfl (n := 678) rfl ?_
      refine x_iload 4 dL_law_678 rfl (n := 680) rfl ?_
      refine x_iconst 2 dL_law_680 rfl (n := 681) rfl ?_
      refine x_iadd dL_law_681 (n := 682) rfl ?_
      refine x_iald (t := 0) rfl dL_law_682 (n := 683) rfl (fun x106 => ?_)
      refine x_aload_nr 0 dL_law_683 rfl rfl (n := 684) rfl ?_
      refine x_iload 4 dL_law_684 rfl (n := 686) rfl ?_
      refine x_iconst 3 dL_law_686 rfl (n := 687) rfl ?_
      refine x_iadd dL_law_687 (n := 688) rfl ?_
      refine x_iald (t := 0) rfl dL_law_688 (n := 689) rfl (fun x107 => ?_)
      refine x_callV_I [.int x105, .int x106, .int x107] [.int x104] (g_split_ok hO p103 v2 x105 x106 x107) rc_X2_split md_X2_split rfl q3243 q3244 q3245 dL_law_689 rfl rfl (by decide) (Nat.le_of_ble_eq_true rfl) (n := 692) rfl (fun x109 p108 => ?_)
      refine x_icmp_eq dL_law_692 (t := 1992) (by decide) (n := 695) rfl (fun _ => ?_) (fun _ => ?_)
      · exact f_L_law_1992_ok hO hk23 v0 v1 v2 v3 v4 p108
      · refine x_iconst 0 dL_law_695 rfl (n := 696) rfl ?_
        exact x_nreturn rfl dL_law_696
    · refine x_aload_nr 1 dL_law_697 rfl rfl (n := 698) rfl ?_
      refine x_aload_nr 0 dL_law_698 rfl rfl (n := 699) rfl ?_
      refine x_iload 4 dL_law_699 rfl (n := 701) rfl ?_
      refine x_iconst 1 dL_law_701 rfl (n := 702) rfl ?_
      refine x_iadd dL_law_702 (n := 703) rfl ?_
      refine x_iald (t := 0) rfl dL_law_703 (n := 704) rfl (fun x110 => ?_)
      refine x_aload_nr 0 dL_law_704 rfl rfl (n := 705) rfl ?_
      refine x_iload 4 dL_law_705 rfl (n := 707) rfl ?_
      refine x_iconst 2 dL_law_707 rfl (n := 708) rfl ?_
      refine x_iadd dL_law_708 (n := 709) rfl ?_
      refine x_iald (t := 0) rfl dL_law_709 (n := 710) rfl (fun x111 => ?_)
      refine x_aload_nr 0 dL_law_710 rfl rfl (n := 711) rfl ?_
      refine x_iload 4 dL_law_711 rfl (n := 713) rfl ?_
      refine x_iconst 3 dL_law_713 rfl (n := 714) rfl ?_
      refine x_iadd dL_law_714 (n := 715) rfl ?_
      refine x_iald (t := 0) rfl dL_law_715 (n := 716) rfl (fun x112 => ?_)
      refine x_callV_I [.int x110, .int x111, .int x112] [] (f_X1_leg_ok hO p0 v1 x110 x111 x112) rc_X1_leg md_X1_leg rfl q1997 q1998 q1999 dL_law_716 rfl rfl (by decide) (Nat.le_of_ble_eq_true rfl) (n := 719) rfl (fun x114 p113 => ?_)
      refine x_aload_nr 2 dL_law_719 rfl rfl (n := 720) rfl ?_
      refine x_aload_nr 0 dL_law_720 rfl rfl (n := 721) rfl ?_
      refine x_iload 4 dL_law_721 rfl (n := 723) rfl ?_
      refine x_iconst 1 dL_law_723 rfl (n := 724) rfl ?_
      refine x_iadd dL_law_724 (n := 725) rfl ?_
      refine x_iald (t := 0) rfl dL_law_725 (n := 726) rfl (fun x115 => ?_)
      refine x_aload_nr 0 dL_law_726 rfl rfl (n := 727) rfl ?_
      refine x_iload 4 dL_law_727 rfl (n := 729) rfl ?_
      refine x_iconst 2 dL_law_729 rfl (n := 730) rfl ?_
      refine x_iadd dL_law_730 (n := 731) rfl ?_
      refine x_iald (t := 0) rfl dL_law_731 (n := 732) rfl (fun x116 => ?_)
      refine x_aload_nr 0 dL_law_732 rfl rfl (n := 733) rfl ?_
      refine x_iload 4 dL_law_733 rfl (n := 735) rfl ?_
      refine x_iconst 3 dL_law_735 rfl (n := 736) rfl ?_
      refine x_iadd dL_law_736 (n := 737) rfl ?_
      refine x_iald (t := 0) rfl dL_law_737 (n := 738) rfl (fun x117 => ?_)
      refine x_callV_I [.int x115, .int x116, .int x117] [.int x114] (g_leg_ok hO p113 v2 x115 x116 x117) rc_X2_leg md_X2_leg rfl q3259 q3260 q3261 dL_law_738 rfl rfl (by decide) (Nat.le_of_ble_eq_true rfl) (n := 741) rfl (fun x119 p118 => ?_)
      refine x_icmp_eq dL_law_741 (t := 1992) (by decide) (n := 744) rfl (fun _ => ?_) (fun _ => ?_)
      · exact f_L_law_1992_ok hO hk23 v0 v1 v2 v3 v4 p118
      · refine x_iconst 0 dL_law_744 rfl (n := 745) rfl ?_
        exact x_nreturn rfl dL_law_745
    · refine x_aload_nr 1 dL_law_746 rfl rfl (n := 747) rfl ?_
      refine x_aload_nr 0 dL_law_747 rfl rfl (n := 748) rfl ?_
      refine x_iload 4 dL_law_748 rfl (n := 750) rfl ?_
      refine x_iconst 1 dL_law_750 rfl (n := 751) rfl ?_
      refine x_iadd dL_law_751 (n := 752) rfl ?_
      refine x_iald (t := 0) rfl dL_law_752 (n := 753) rfl (fun x120 => ?_)
      refine x_aload_nr 0 dL_law_753 rfl rfl (n := 754) rfl ?_
      refine x_iload 4 dL_law_754 rfl (n := 756) rfl ?_
      refine x_iconst 2 dL_law_756 rfl (n := 757) rfl ?_
      refine x_iadd dL_law_757 (n := 758) rfl ?_
      refine x_iald (t := 0) rfl dL_law_758 (n := 759) rfl (fun x121 => ?_)
      refine x_aload_nr 0 dL_law_759 rfl rfl (n := 760) rfl ?_
      refine x_iload 4 dL_law_760 rfl (n := 762) rfl ?_
      refine x_iconst 3 dL_law_762 rfl (n := 763) rfl ?_
      refine x_iadd dL_law_763 (n := 764) rfl ?_
      refine x_iald (t := 0) rfl dL_law_764 (n := 765) rfl (fun x122 => ?_)
      refine x_callV_I [.int x120, .int x121, .int x122] [] (f_X1_best_ok hO p0 v1 x120 x121 x122) rc_X1_best md_X1_best rfl q2116 q2117 q2118 dL_law_765 rfl rfl (by decide) (Nat.le_of_ble_eq_true rfl) (n := 768) rfl (fun x124 p123 => ?_)
      refine x_aload_nr 2 dL_law_768 rfl rfl (n := 769) rfl ?_
      refine x_aload_nr 0 dL_law_769 rfl rfl (n := 770) rfl ?_
      refine x_iload 4 dL_law_770 rfl (n := 772) rfl ?_
      refine x_iconst 1 dL_law_772 rfl (n := 773) rfl ?_
      refine x_iadd dL_law_773 (n := 774) rfl ?_
      refine x_iald (t := 0) rfl dL_law_774 (n := 775) rfl (fun x125 => ?_)
      refine x_aload_nr 0 dL_law_775 rfl rfl (n := 776) rfl ?_
      refine x_iload 4 dL_law_776 rfl (n := 778) rfl ?_
      refine x_iconst 2 dL_law_778 rfl (n := 779) rfl ?_
      refine x_iadd dL_law_779 (n := 780) rfl ?_
      refine x_iald (t := 0) rfl dL_law_780 (n := 781) rfl (fun x126 => ?_)
      refine x_aload_nr 0 dL_law_781 rfl rfl (n := 782) rfl ?_
      refine x_iload 4 dL_law_782 rfl (n := 784) rfl ?_
      refine x_iconst 3 dL_law_784 rfl (n := 785) rfl ?_
      refine x_iadd dL_law_785 (n := 786) rfl ?_
      refine x_iald (t := 0) rfl dL_law_786 (n := 787) rfl (fun x127 => ?_)
      refine x_callV_I [.int x125, .int x126, .int x127] [.int x124] (g_best_ok hO p123 v2 x125 x126 x127) rc_X2_best md_X2_best rfl q3275 q3276 q3277 dL_law_787 rfl rfl (by decide) (Nat.le_of_ble_eq_true rfl) (n := 790) rfl (fun x129 p128 => ?_)
      refine x_icmp_eq dL_law_790 (t := 1992) (by decide) (n := 793) rfl (fun _ => ?_) (fun _ => ?_)
      · exact f_L_law_1992_ok hO hk23 v0 v1 v2 v3 v4 p128
      · refine x_iconst 0 dL_law_793 rfl (n := 794) rfl ?_
        exact x_nreturn rfl dL_law_794
    · refine x_aload_nr 1 dL_law_795 rfl rfl (n := 796) rfl ?_
      refine x_aload_nr 0 dL_law_796 rfl rfl (n := 797) rfl ?_
      refine x_iload 4 dL_law_797 rfl (n := 799) rfl ?_
      refine x_iconst 1 dL_law_799 rfl (n := 800) rfl ?_
      refine x_iadd dL_law_800 (n := 801) rfl ?_
      refine x_iald (t := 0) rfl dL_law_801 (n := 802) rfl (fun x130 => ?_)
      refine x_aload_nr 0 dL_law_802 rfl rfl (n := 803) rfl ?_
      refine x_iload 4 dL_law_803 rfl (n := 805) rfl ?_
      refine x_iconst 2 dL_law_805 rfl (n := 806) rfl ?_
      refine x_iadd dL_law_806 (n := 807) rfl ?_
      refine x_iald (t := 0) rfl dL_law_807 (n := 808) rfl (fun x131 => ?_)
      refine x_callV_I [.int x130, .int x131] [] (f_X1_leads_ok hO p0 v1 x130 x131) rc_X1_leads md_X1_leads rfl q2122 q2123 q2124 dL_law_808 rfl rfl (by decide) (Nat.le_of_ble_eq_true rfl) (n := 811) rfl (fun x133 p132 => ?_)
      refine x_aload_nr 2 dL_law_811 rfl rfl (n := 812) rfl ?_
      refine x_aload_nr 0 dL_law_812 rfl rfl (n := 813) rfl ?_
      refine x_iload 4 dL_law_813 rfl (n := 815) rfl ?_
      refine x_iconst 1 dL_law_815 rfl (n := 816) rfl ?_
      refine x_iadd dL_law_816 (n := 817) rfl ?_
      refine x_iald (t := 0) rfl dL_law_817 (n := 818) rfl (fun x134 => ?_)
      refine x_aload_nr 0 dL_law_818 rfl rfl (n := 819) rfl ?_
      refine x_iload 4 dL_law_819 rfl (n := 821) rfl ?_
      refine x_iconst 2 dL_law_821 rfl (n := 822) rfl ?_
      refine x_iadd dL_law_822 (n := 823) rfl ?_
      refine x_iald (t := 0) rfl dL_law_823 (n := 824) rfl (fun x135 => ?_)
      refine x_callV_I [.int x134, .int x135] [.int x133] (g_leads_ok hO p132 v2 x134 x135) rc_X2_leads md_X2_leads rfl q3279 q3280 q3281 dL_law_824 rfl rfl (by decide) (Nat.le_of_ble_eq_true rfl) (n := 827) rfl (fun x137 p136 => ?_)
      refine x_icmp_eq dL_law_827 (t := 1992) (by decide) (n := 830) rfl (fun _ => ?_) (fun _ => ?_)
      · exact f_L_law_1992_ok hO hk23 v0 v1 v2 v3 v4 p136
      · refine x_iconst 0 dL_law_830 rfl (n := 831) rfl ?_
        exact x_nreturn rfl dL_law_831
    · refine x_aload_nr 1 dL_law_832 rfl rfl (n := 833) rfl ?_
      refine x_aload_nr 0 dL_law_833 rfl rfl (n := 834) rfl ?_
      refine x_iload 4 dL_law_834 rfl (n := 836) rfl ?_
      refine x_iconst 1 dL_law_836 rfl (n := 837) rfl ?_
      refine x_iadd dL_law_837 (n := 838) rfl ?_
      refine x_iald (t := 0) rfl dL_law_838 (n := 839) rfl (fun x138 => ?_)
      refine x_callV_I [.int x138] [] (f_X1_changes_ok hO p0 v1 x138) rc_X1_changes md_X1_changes rfl q2126 q2127 q2128 dL_law_839 rfl rfl (by decide) (Nat.le_of_ble_eq_true rfl) (n := 842) rfl (fun x140 p139 => ?_)
      refine x_aload_nr 2 dL_law_842 rfl rfl (n := 843) rfl ?_
      refine x_aload_nr 0 dL_law_843 rfl rfl (n := 844) rfl ?_
      refine x_iload 4 dL_law_844 rfl (n := 846) rfl ?_
      refine x_iconst 1 dL_law_846 rfl (n := 847) rfl ?_
      refine x_iadd dL_law_847 (n := 848) rfl ?_
      refine x_iald (t := 0) rfl dL_law_848 (n := 849) rfl (fun x141 => ?_)
      refine x_callV_I [.int x141] [.int x140] (g_changes_ok hO p139 v2 x141) rc_X2_changes md_X2_changes rfl q3283 q3284 q3285 dL_law_849 rfl rfl (by decide) (Nat.le_of_ble_eq_true rfl) (n := 852) rfl (fun x143 p142 => ?_)
      refine x_icmp_eq dL_law_852 (t := 1992) (by decide) (n := 855) rfl (fun _ => ?_) (fun _ => ?_)
      · exact f_L_law_1992_ok hO hk23 v0 v1 v2 v3 v4 p142
      · refine x_iconst 0 dL_law_855 rfl (n := 856) rfl ?_
        exact x_nreturn rfl dL_law_856
    · refine x_aload_nr 1 dL_law_857 rfl rfl (n := 858) rfl ?_
      refine x_aload_nr 0 dL_law_858 rfl rfl (n := 859) rfl ?_
      refine x_iload 4 dL_law_859 rfl (n := 861) rfl ?_
      refine x_iconst 1 dL_law_861 rfl (n := 862) rfl ?_
      refine x_iadd dL_law_862 (n := 863) rfl ?_
      refine x_iald (t := 0) rfl dL_law_863 (n := 864) rfl (fun x144 => ?_)
      refine x_aload_nr 0 dL_law_864 rfl rfl (n := 865) rfl ?_
      refine x_iload 4 dL_law_865 rfl (n := 867) rfl ?_
      refine x_iconst 2 dL_law_867 rfl (n := 868) rfl ?_
      refine x_iadd dL_law_868 (n := 869) rfl ?_
      refine x_iald (t := 0) rfl dL_law_869 (n := 870) rfl (fun x145 => ?_)
      refine x_callV_I [.int x144, .int x145] [] (f_X1_ranked_ok hO p0 v1 x144 x145) rc_X1_ranked md_X1_ranked rfl q2130 q2131 q2132 dL_law_870 rfl rfl (by decide) (Nat.le_of_ble_eq_true rfl) (n := 873) rfl (fun x147 p146 => ?_)
      refine x_aload_nr 2 dL_law_873 rfl rfl (n := 874) rfl ?_
      refine x_aload_nr 0 dL_law_874 rfl rfl (n := 875) rfl ?_
      refine x_iload 4 dL_law_875 rfl (n := 877) rfl ?_
      refine x_iconst 1 dL_law_877 rfl (n := 878) rfl ?_
      refine x_iadd dL_law_878 (n := 879) rfl ?_
      refine x_iald (t := 0) rfl dL_law_879 (n := 880) rfl (fun x148 => ?_)
      refine x_aload_nr 0 dL_law_880 rfl rfl (n := 881) rfl ?_
      refine x_iload 4 dL_law_881 rfl (n := 883) rfl ?_
      refine x_iconst 2 dL_law_883 rfl (n := 884) rfl ?_
      refine x_iadd dL_law_884 (n := 885) rfl ?_
      refine x_iald (t := 0) rfl dL_law_885 (n := 886) rfl (fun x149 => ?_)
      refine x_callV_I [.int x148, .int x149] [.int x147] (g_ranked_ok hO p146 v2 x148 x149) rc_X2_ranked md_X2_ranked rfl q3287 q3288 q3289 dL_law_886 rfl rfl (by decide) (Nat.le_of_ble_eq_true rfl) (n := 889) rfl (fun x151 p150 => ?_)
      refine x_icmp_eq dL_law_889 (t := 1992) (by decide) (n := 892) rfl (fun _ => ?_) (fun _ => ?_)
      · exact f_L_law_1992_ok hO hk23 v0 v1 v2 v3 v4 p150
      · refine x_iconst 0 dL_law_892 rfl (n := 893) rfl ?_
        exact x_nreturn rfl dL_law_893
    · refine x_aload_nr 1 dL_law_894 rfl rfl (n := 895) rfl ?_
      refine x_aload_nr 0 dL_law_895 rfl rfl (n := 896) rfl ?_
      refine x_iload 4 dL_law_896 rfl (n := 898) rfl ?_
      refine x_iconst 1 dL_law_898 rfl (n := 899) rfl ?_
      refine x_iadd dL_law_899 (n := 900) rfl ?_
      refine x_iald (t := 0) rfl dL_law_900 (n := 901) rfl (fun x152 => ?_)
      refine x_callV_I [.int x152] [] (f_X1_lost_ok hO p0 v1 x152) rc_X1_lost md_X1_lost rfl q2134 q2135 q2136 dL_law_901 rfl rfl (by decide) (Nat.le_of_ble_eq_true rfl) (n := 904) rfl (fun x154 p153 => ?_)
      refine x_aload_nr 2 dL_law_904 rfl rfl (n := 905) rfl ?_
      refine x_aload_nr 0 dL_law_905 rfl rfl (n := 906) rfl ?_
      refine x_iload 4 dL_law_906 rfl (n := 908) rfl ?_
      refine x_iconst 1 dL_law_908 rfl (n := 909) rfl ?_
      refine x_iadd dL_law_909 (n := 910) rfl ?_
      refine x_iald (t := 0) rfl dL_law_910 (n := 911) rfl (fun x155 => ?_)
      refine x_callV_I [.int x155] [.int x154] (g_lost_ok hO p153 v2 x155) rc_X2_lost md_X2_lost rfl q3307 q3308 q3309 dL_law_911 rfl rfl (by decide) (Nat.le_of_ble_eq_true rfl) (n := 914) rfl (fun x157 p156 => ?_)
      refine x_icmp_eq dL_law_914 (t := 1992) (by decide) (n := 917) rfl (fun _ => ?_) (fun _ => ?_)
      · exact f_L_law_1992_ok hO hk23 v0 v1 v2 v3 v4 p156
      · refine x_iconst 0 dL_law_917 rfl (n := 918) rfl ?_
        exact x_nreturn rfl dL_law_918
    · refine x_aload_nr 1 dL_law_919 rfl rfl (n := 920) rfl ?_
      refine x_aload_nr 0 dL_law_920 rfl rfl (n := 921) rfl ?_
      refine x_iload 4 dL_law_921 rfl (n := 923) rfl ?_
      refine x_iconst 1 dL_law_923 rfl (n := 924) rfl ?_
      refine x_iadd dL_law_924 (n := 925) rfl ?_
      refine x_iald (t := 0) rfl dL_law_925 (n := 926) rfl (fun x158 => ?_)
      refine x_callV_I [.int x158] [] (f_X1_worst_ok hO p0 v1 x158) rc_X1_worst md_X1_worst rfl q2139 q2140 q2141 dL_law_926 rfl rfl (by decide) (Nat.le_of_ble_eq_true rfl) (n := 929) rfl (fun x160 p159 => ?_)
      refine x_aload_nr 2 dL_law_929 rfl rfl (n := 930) rfl ?_
      refine x_aload_nr 0 dL_law_930 rfl rfl (n := 931) rfl ?_
      refine x_iload 4 dL_law_931 rfl (n := 933) rfl ?_
      refine x_iconst 1 dL_law_933 rfl (n := 934) rfl ?_
      refine x_iadd dL_law_934 (n := 935) rfl ?_
      refine x_iald (t := 0) rfl dL_law_935 (n := 936) rfl (fun x161 => ?_)
      refine x_callV_I [.int x161] [.int x160] (g_worst_ok hO p159 v2 x161) rc_X2_worst md_X2_worst rfl q3311 q3312 q3313 dL_law_936 rfl rfl (by decide) (Nat.le_of_ble_eq_true rfl) (n := 939) rfl (fun x163 p162 => ?_)
      refine x_icmp_eq dL_law_939 (t := 1992) (by decide) (n := 942) rfl (fun _ => ?_) (fun _ => ?_)
      · exact f_L_law_1992_ok hO hk23 v0 v1 v2 v3 v4 p162
      · refine x_iconst 0 dL_law_942 rfl (n := 943) rfl ?_
        exact x_nreturn rfl dL_law_943
    · refine x_aload_nr 1 dL_law_944 rfl rfl (n := 945) rfl ?_
      refine x_aload_nr 0 dL_law_945 rfl rfl (n := 946) rfl ?_
      refine x_iload 4 dL_law_946 rfl (n := 948) rfl ?_
      refine x_iconst 1 dL_law_948 rfl (n := 949) rfl ?_
      refine x_iadd dL_law_949 (n := 950) rfl ?_
      refine x_iald (t := 0) rfl dL_law_950 (n := 951) rfl (fun x164 => ?_)
      refine x_aload_nr 0 dL_law_951 rfl rfl (n := 952) rfl ?_
      refine x_iload 4 dL_law_952 rfl (n := 954) rfl ?_
      refine x_iconst 2 dL_law_954 rfl (n := 955) rfl ?_
      refine x_iadd dL_law_955 (n := 956) rfl ?_
      refine x_iald (t := 0) rfl dL_law_956 (n := 957) rfl (fun x165 => ?_)
      refine x_callV_I [.int x164, .int x165] [] (f_X1_pace_ok hO p0 v1 x164 x165) rc_X1_pace md_X1_pace rfl q2143 q2144 q2145 dL_law_957 rfl rfl (by decide) (Nat.le_of_ble_eq_true rfl) (n := 960) rfl (fun x167 p166 => ?_)
      refine x_aload_nr 2 dL_law_960 rfl rfl (n := 961) rfl ?_
      refine x_aload_nr 0 dL_law_961 rfl rfl (n := 962) rfl ?_
      refine x_iload 4 dL_law_962 rfl (n := 964) rfl ?_
      refine x_iconst 1 dL_law_964 rfl (n := 965) rfl ?_
      refine x_iadd dL_law_965 (n := 966) rfl ?_
      refine x_iald (t := 0) rfl dL_law_966 (n := 967) rfl (fun x168 => ?_)
      refine x_aload_nr 0 dL_law_967 rfl rfl (n := 968) rfl ?_
      refine x_iload 4 dL_law_968 rfl (n := 970) rfl ?_
      refine x_iconst 2 dL_law_970 rfl (n := 971) rfl ?_
      refine x_iadd dL_law_971 (n := 972) rfl ?_
      refine x_iald (t := 0) rfl dL_law_972 (n := 973) rfl (fun x169 => ?_)
      refine x_callV_I [.int x168, .int x169] [.int x167] (g_pace_ok hO p166 v2 x168 x169) rc_X2_pace md_X2_pace rfl q3315 q3316 q3317 dL_law_973 rfl rfl (by decide) (Nat.le_of_ble_eq_true rfl) (n := 976) rfl (fun x171 p170 => ?_)
      refine x_icmp_eq dL_law_976 (t := 1992) (by decide) (n := 979) rfl (fun _ => ?_) (fun _ => ?_)
      · exact f_L_law_1992_ok hO hk23 v0 v1 v2 v3 v4 p170
      · refine x_iconst 0 dL_law_979 rfl (n := 980) rfl ?_
        exact x_nreturn rfl dL_law_980
    · refine x_aload_nr 1 dL_law_981 rfl rfl (n := 982) rfl ?_
      refine x_aload_nr 0 dL_law_982 rfl rfl (n := 983) rfl ?_
      refine x_iload 4 dL_law_983 rfl (n := 985) rfl ?_
      refine x_iconst 1 dL_law_985 rfl (n := 986) rfl ?_
      refine x_iadd dL_law_986 (n := 987) rfl ?_
      refine x_iald (t := 0) rfl dL_law_987 (n := 988) rfl (fun x172 => ?_)
      refine x_callV_I [.int x172] [] (f_X1_mistakes_ok hO p0 v1 x172) rc_X1_mistakes md_X1_mistakes rfl q2150 q2151 q2152 dL_law_988 rfl rfl (by decide) (Nat.le_of_ble_eq_true rfl) (n := 991) rfl (fun x174 p173 => ?_)
      refine x_aload_nr 2 dL_law_991 rfl rfl (n := 992) rfl ?_
      refine x_aload_nr 0 dL_law_992 rfl rfl (n := 993) rfl ?_
      refine x_iload 4 dL_law_993 rfl (n := 995) rfl ?_
      refine x_iconst 1 dL_law_995 rfl (n := 996) rfl ?_
      refine x_iadd dL_law_996 (n := 997) rfl ?_
      refine x_iald (t := 0) rfl dL_law_997 (n := 998) rfl (fun x175 => ?_)
      refine x_callV_I [.int x175] [.int x174] (g_mistakes_ok hO p173 v2 x175) rc_X2_mistakes md_X2_mistakes rfl q3322 q3323 q3324 dL_law_998 rfl rfl (by decide) (Nat.le_of_ble_eq_true rfl) (n := 1001) rfl (fun x177 p176 => ?_)
      refine x_icmp_eq dL_law_1001 (t := 1992) (by decide) (n := 1004) rfl (fun _ => ?_) (fun _ => ?_)
      · exact f_L_law_1992_ok hO hk23 v0 v1 v2 v3 v4 p176
      · refine x_iconst 0 dL_law_1004 rfl (n := 1005) rfl ?_
        exact x_nreturn rfl dL_law_1005
    · refine x_aload_nr 1 dL_law_1006 rfl rfl (n := 1007) rfl ?_
      refine x_aload_nr 0 dL_law_1007 rfl rfl (n := 1008) rfl ?_
      refine x_iload 4 dL_law_1008 rfl (n := 1010) rfl ?_
      refine x_iconst 1 dL_law_1010 rfl (n := 1011) rfl ?_
      refine x_iadd dL_law_1011 (n := 1012) rfl ?_
      refine x_iald (t := 0) rfl dL_law_1012 (n := 1013) rfl (fun x178 => ?_)
      refine x_callV_I [.int x178] [] (f_X1_clean_ok hO p0 v1 x178) rc_X1_clean md_X1_clean rfl q2154 q2155 q2156 dL_law_1013 rfl rfl (by decide) (Nat.le_of_ble_eq_true rfl) (n := 1016) rfl (fun x180 p179 => ?_)
      refine x_aload_nr 2 dL_law_1016 rfl rfl (n := 1017) rfl ?_
      refine x_aload_nr 0 dL_law_1017 rfl rfl (n := 1018) rfl ?_
      refine x_iload 4 dL_law_1018 rfl (n := 1020) rfl ?_
      refine x_iconst 1 dL_law_1020 rfl (n := 1021) rfl ?_
      refine x_iadd dL_law_1021 (n := 1022) rfl ?_
      refine x_iald (t := 0) rfl dL_law_1022 (n := 1023) rfl (fun x181 => ?_)
      refine x_callV_I [.int x181] [.int x180] (g_clean_ok hO p179 v2 x181) rc_X2_clean md_X2_clean rfl q3326 q3327 q3328 dL_law_1023 rfl rfl (by decide) (Nat.le_of_ble_eq_true rfl) (n := 1026) rfl (fun x183 p182 => ?_)
      refine x_icmp_eq dL_law_1026 (t := 1992) (by decide) (n := 1029) rfl (fun _ => ?_) (fun _ => ?_)
      · exact f_L_law_1992_ok hO hk23 v0 v1 v2 v3 v4 p182
      · refine x_iconst 0 dL_law_1029 rfl (n := 1030) rfl ?_
        exact x_nreturn rfl dL_law_1030
    · refine x_aload_nr 1 dL_law_1031 rfl rfl (n := 1032) rfl ?_
      refine x_aload_nr 0 dL_law_1032 rfl rfl (n := 1033) rfl ?_
      refine x_iload 4 dL_law_1033 rfl (n := 1035) rfl ?_
      refine x_iconst 1 dL_law_1035 rfl (n := 1036) rfl ?_
      refine x_iadd dL_law_1036 (n := 1037) rfl ?_
      refine x_iald (t := 0) rfl dL_law_1037 (n := 1038) rfl (fun x184 => ?_)
      refine x_aload_nr 0 dL_law_1038 rfl rfl (n := 1039) rfl ?_
      refine x_iload 4 dL_law_1039 rfl (n := 1041) rfl ?_
      refine x_iconst 2 dL_law_1041 rfl (n := 1042) rfl ?_
      refine x_iadd dL_law_1042 (n := 1043) rfl ?_
      refine x_iald (t := 0) rfl dL_law_1043 (n := 1044) rfl (fun x185 => ?_)
      refine x_callV_I [.int x184, .int x185] [] (f_X1_cleanPlace_ok hO p0 v1 x184 x185) rc_X1_cleanPlace md_X1_cleanPlace rfl q2166 q2167 q2168 dL_law_1044 rfl rfl (by decide) (Nat.le_of_ble_eq_true rfl) (n := 1047) rfl (fun x187 p186 => ?_)
      refine x_aload_nr 2 dL_law_1047 rfl rfl (n := 1048) rfl ?_
      refine x_aload_nr 0 dL_law_1048 rfl rfl (n := 1049) rfl ?_
      refine x_iload 4 dL_law_1049 rfl (n := 1051) rfl ?_
      refine x_iconst 1 dL_law_1051 rfl (n := 1052) rfl ?_
      refine x_iadd dL_law_1052 (n := 1053) rfl ?_
      refine x_iald (t := 0) rfl dL_law_1053 (n := 1054) rfl (fun x188 => ?_)
      refine x_aload_nr 0 dL_law_1054 rfl rfl (n := 1055) rfl ?_
      refine x_iload 4 dL_law_1055 rfl (n := 1057) rfl ?_
      refine x_iconst 2 dL_law_1057 rfl (n := 1058) rfl ?_
      refine x_iadd dL_law_1058 (n := 1059) rfl ?_
      refine x_iald (t := 0) rfl dL_law_1059 (n := 1060) rfl (fun x189 => ?_)
      refine x_callV_I [.int x188, .int x189] [.int x187] (g_cleanPlace_ok hO p186 v2 x188 x189) rc_X2_cleanPlace md_X2_cleanPlace rfl q3334 q3335 q3336 dL_law_1060 rfl rfl (by decide) (Nat.le_of_ble_eq_true rfl) (n := 1063) rfl (fun x191 p190 => ?_)
      refine x_icmp_eq dL_law_1063 (t := 1992) (by decide) (n := 1066) rfl (fun _ => ?_) (fun _ => ?_)
      · exact f_L_law_1992_ok hO hk23 v0 v1 v2 v3 v4 p190
      · refine x_iconst 0 dL_law_1066 rfl (n := 1067) rfl ?_
        exact x_nreturn rfl dL_law_1067
    · refine x_aload_nr 1 dL_law_1068 rfl rfl (n := 1069) rfl ?_
      refine x_aload_nr 0 dL_law_1069 rfl rfl (n := 1070) rfl ?_
      refine x_iload 4 dL_law_1070 rfl (n := 1072) rfl ?_
      refine x_iconst 1 dL_law_1072 rfl (n := 1073) rfl ?_
      refine x_iadd dL_law_1073 (n := 1074) rfl ?_
      refine x_iald (t := 0) rfl dL_law_1074 (n := 1075) rfl (fun x192 => ?_)
      refine x_aload_nr 0 dL_law_1075 rfl rfl (n := 1076) rfl ?_
      refine x_iload 4 dL_law_1076 rfl (n := 1078) rfl ?_
      refine x_iconst 2 dL_law_1078 rfl (n := 1079) rfl ?_
      refine x_iadd dL_law_1079 (n := 1080) rfl ?_
      refine x_iald (t := 0) rfl dL_law_1080 (n := 1081) rfl (fun x193 => ?_)
      refine x_aload_nr 0 dL_law_1081 rfl rfl (n := 1082) rfl ?_
      refine x_iload 4 dL_law_1082 rfl (n := 1084) rfl ?_
      refine x_iconst 3 dL_law_1084 rfl (n := 1085) rfl ?_
      refine x_iadd dL_law_1085 (n := 1086) rfl ?_
      refine x_iald (t := 0) rfl dL_law_1086 (n := 1087) rfl (fun x194 => ?_)
      refine x_callV_I [.int x192, .int x193, .int x194] [] (f_X1_without_ok hO p0 v1 x192 x193 x194) rc_X1_without md_X1_without rfl q2170 q2171 q2172 dL_law_1087 rfl rfl (by decide) (Nat.le_of_ble_eq_true rfl) (n := 1090) rfl (fun x196 p195 => ?_)
      refine x_aload_nr 2 dL_law_1090 rfl rfl (n := 1091) rfl ?_
      refine x_aload_nr 0 dL_law_1091 rfl rfl (n := 1092) rfl ?_
      refine x_iload 4 dL_law_1092 rfl (n := 1094) rfl ?_
      refine x_iconst 1 dL_law_1094 rfl (n := 1095) rfl ?_
      refine x_iadd dL_law_1095 (n := 1096) rfl ?_
      refine x_iald (t := 0) rfl dL_law_1096 (n := 1097) rfl (fun x197 => ?_)
      refine x_aload_nr 0 dL_law_1097 rfl rfl (n := 1098) rfl ?_
      refine x_iload 4 dL_law_1098 rfl (n := 1100) rfl ?_
      refine x_iconst 2 dL_law_1100 rfl (n := 1101) rfl ?_
      refine x_iadd dL_law_1101 (n := 1102) rfl ?_
      refine x_iald (t := 0) rfl dL_law_1102 (n := 1103) rfl (fun x198 => ?_)
      refine x_aload_nr 0 dL_law_1103 rfl rfl (n := 1104) rfl ?_
      refine x_iload 4 dL_law_1104 rfl (n := 1106) rfl ?_
      refine x_iconst 3 dL_law_1106 rfl (n := 1107) rfl ?_
      refine x_iadd dL_law_1107 (n := 1108) rfl ?_
      refine x_iald (t := 0) rfl dL_law_1108 (n := 1109) rfl (fun x199 => ?_)
      refine x_callV_I [.int x197, .int x198, .int x199] [.int x196] (g_without_ok hO p195 v2 x197 x198 x199) rc_X2_without md_X2_without rfl q3303 q3304 q3305 dL_law_1109 rfl rfl (by decide) (Nat.le_of_ble_eq_true rfl) (n := 1112) rfl (fun x201 p200 => ?_)
      refine x_icmp_eq dL_law_1112 (t := 1992) (by decide) (n := 1115) rfl (fun _ => ?_) (fun _ => ?_)
      · exact f_L_law_1992_ok hO hk23 v0 v1 v2 v3 v4 p200
      · refine x_iconst 0 dL_law_1115 rfl (n := 1116) rfl ?_
        exact x_nreturn rfl dL_law_1116
    · refine x_aload_nr 1 dL_law_1117 rfl rfl (n := 1118) rfl ?_
      refine x_aload_nr 0 dL_law_1118 rfl rfl (n := 1119) rfl ?_
      refine x_iload 4 dL_law_1119 rfl (n := 1121) rfl ?_
      refine x_iconst 1 dL_law_1121 rfl (n := 1122) rfl ?_
      refine x_iadd dL_law_1122 (n := 1123) rfl ?_
      refine x_iald (t := 0) rfl dL_law_1123 (n := 1124) rfl (fun x202 => ?_)
      refine x_aload_nr 0 dL_law_1124 rfl rfl (n := 1125) rfl ?_
      refine x_iload 4 dL_law_1125 rfl (n := 1127) rfl ?_
      refine x_iconst 2 dL_law_1127 rfl (n := 1128) rfl ?_
      refine x_iadd dL_law_1128 (n := 1129) rfl ?_
      refine x_iald (t := 0) rfl dL_law_1129 (n := 1130) rfl (fun x203 => ?_)
      refine x_callV_I [.int x202, .int x203] [] (f_X1_hardest_ok hO p0 v1 x202 x203) rc_X1_hardest md_X1_hardest rfl q2174 q2175 q2176 dL_law_1130 rfl rfl (by decide) (Nat.le_of_ble_eq_true rfl) (n := 1133) rfl (fun x205 p204 => ?_)
      refine x_aload_nr 2 dL_law_1133 rfl rfl (n := 1134) rfl ?_
      refine x_aload_nr 0 dL_law_1134 rfl rfl (n := 1135) rfl ?_
      refine x_iload 4 dL_law_1135 rfl (n := 1137) rfl ?_
      refine x_iconst 1 dL_law_1137 rfl (n := 1138) rfl ?_
      refine x_iadd dL_law_1138 (n := 1139) rfl ?_
      refine x_iald (t := 0) rfl dL_law_1139 (n := 1140) rfl (fun x206 => ?_)
      refine x_aload_nr 0 dL_law_1140 rfl rfl (n := 1141) rfl ?_
      refine x_iload 4 dL_law_1141 rfl (n := 1143) rfl ?_
      refine x_iconst 2 dL_law_1143 rfl (n := 1144) rfl ?_
      refine x_iadd dL_law_1144 (n := 1145) rfl ?_
      refine x_iald (t := 0) rfl dL_law_1145 (n := 1146) rfl (fun x207 => ?_)
      refine x_callV_I [.int x206, .int x207] [.int x205] (g_hardest_ok hO p204 v2 x206 x207) rc_X2_hardest md_X2_hardest rfl q3291 q3292 q3293 dL_law_1146 rfl rfl (by decide) (Nat.le_of_ble_eq_true rfl) (n := 1149) rfl (fun x209 p208 => ?_)
      refine x_icmp_eq dL_law_1149 (t := 1992) (by decide) (n := 1152) rfl (fun _ => ?_) (fun _ => ?_)
      · exact f_L_law_1992_ok hO hk23 v0 v1 v2 v3 v4 p208
      · refine x_iconst 0 dL_law_1152 rfl (n := 1153) rfl ?_
        exact x_nreturn rfl dL_law_1153
    · refine x_aload_nr 1 dL_law_1154 rfl rfl (n := 1155) rfl ?_
      refine x_aload_nr 0 dL_law_1155 rfl rfl (n := 1156) rfl ?_
      refine x_iload 4 dL_law_1156 rfl (n := 1158) rfl ?_
      refine x_iconst 1 dL_law_1158 rfl (n := 1159) rfl ?_
      refine x_iadd dL_law_1159 (n := 1160) rfl ?_
      refine x_iald (t := 0) rfl dL_law_1160 (n := 1161) rfl (fun x210 => ?_)
      refine x_callV_I [.int x210] [] (f_X1_packs_ok hO p0 v1 x210) rc_X1_packs md_X1_packs rfl q2178 q2179 q2180 dL_law_1161 rfl rfl (by decide) (Nat.le_of_ble_eq_true rfl) (n := 1164) rfl (fun x212 p211 => ?_)
      refine x_aload_nr 2 dL_law_1164 rfl rfl (n := 1165) rfl ?_
      refine x_aload_nr 0 dL_law_1165 rfl rfl (n := 1166) rfl ?_
      refine x_iload 4 dL_law_1166 rfl (n := 1168) rfl ?_
      refine x_iconst 1 dL_law_1168 rfl (n := 1169) rfl ?_
      refine x_iadd dL_law_1169 (n := 1170) rfl ?_
      refine x_iald (t := 0) rfl dL_law_1170 (n := 1171) rfl (fun x213 => ?_)
      refine x_callV_I [.int x213] [.int x212] (g_packs_ok hO p211 v2 x213) rc_X2_packs md_X2_packs rfl q3338 q3339 q3340 dL_law_1171 rfl rfl (by decide) (Nat.le_of_ble_eq_true rfl) (n := 1174) rfl (fun x215 p214 => ?_)
      refine x_icmp_eq dL_law_1174 (t := 1992) (by decide) (n := 1177) rfl (fun _ => ?_) (fun _ => ?_)
      · exact f_L_law_1992_ok hO hk23 v0 v1 v2 v3 v4 p214
      · refine x_iconst 0 dL_law_1177 rfl (n := 1178) rfl ?_
        exact x_nreturn rfl dL_law_1178
    · refine x_aload_nr 1 dL_law_1179 rfl rfl (n := 1180) rfl ?_
      refine x_aload_nr 0 dL_law_1180 rfl rfl (n := 1181) rfl ?_
      refine x_iload 4 dL_law_1181 rfl (n := 1183) rfl ?_
      refine x_iconst 1 dL_law_1183 rfl (n := 1184) rfl ?_
      refine x_iadd dL_law_1184 (n := 1185) rfl ?_
      refine x_iald (t := 0) rfl dL_law_1185 (n := 1186) rfl (fun x216 => ?_)
      refine x_aload_nr 0 dL_law_1186 rfl rfl (n := 1187) rfl ?_
      refine x_iload 4 dL_law_1187 rfl (n := 1189) rfl ?_
      refine x_iconst 2 dL_law_1189 rfl (n := 1190) rfl ?_
      refine x_iadd dL_law_1190 (n := 1191) rfl ?_
      refine x_iald (t := 0) rfl dL_law_1191 (n := 1192) rfl (fun x217 => ?_)
      refine x_aload_nr 0 dL_law_1192 rfl rfl (n := 1193) rfl ?_
      refine x_iload 4 dL_law_1193 rfl (n := 1195) rfl ?_
      refine x_iconst 3 dL_law_1195 rfl (n := 1196) rfl ?_
      refine x_iadd dL_law_1196 (n := 1197) rfl ?_
      refine x_iald (t := 0) rfl dL_law_1197 (n := 1198) rfl (fun x218 => ?_)
      refine x_callV_I [.int x216, .int x217, .int x218] [] (f_X1_pack_ok hO p0 v1 x216 x217 x218) rc_X1_pack md_X1_pack rfl q2324 q2325 q2326 dL_law_1198 rfl rfl (by decide) (Nat.le_of_ble_eq_true rfl) (n := 1201) rfl (fun x220 p219 => ?_)
      refine x_aload_nr 2 dL_law_1201 rfl rfl (n := 1202) rfl ?_
      refine x_aload_nr 0 dL_law_1202 rfl rfl (n := 1203) rfl ?_
      refine x_iload 4 dL_law_1203 rfl (n := 1205) rfl ?_
      refine x_iconst 1 dL_law_1205 rfl (n := 1206) rfl ?_
      refine x_iadd dL_law_1206 (n := 1207) rfl ?_
      refine x_iald (t := 0) rfl dL_law_1207 (n := 1208) rfl (fun x221 => ?_)
      refine x_aload_nr 0 dL_law_1208 rfl rfl (n := 1209) rfl ?_
      refine x_iload 4 dL_law_1209 rfl (n := 1211) rfl ?_
      refine x_iconst 2 dL_law_1211 rfl (n := 1212) rfl ?_
      refine x_iadd dL_law_1212 (n := 1213) rfl ?_
      refine x_iald (t := 0) rfl dL_law_1213 (n := 1214) rfl (fun x222 => ?_)
      refine x_aload_nr 0 dL_law_1214 rfl rfl (n := 1215) rfl ?_
      refine x_iload 4 dL_law_1215 rfl (n := 1217) rfl ?_
      refine x_iconst 3 dL_law_1217 rfl (n := 1218) rfl ?_
      refine x_iadd dL_law_1218 (n := 1219) rfl ?_
      refine x_iald (t := 0) rfl dL_law_1219 (n := 1220) rfl (fun x223 => ?_)
      refine x_callV_I [.int x221, .int x222, .int x223] [.int x220] (g_pack_ok hO p219 v2 x221 x222 x223) rc_X2_pack md_X2_pack rfl q3350 q3351 q3352 dL_law_1220 rfl rfl (by decide) (Nat.le_of_ble_eq_true rfl) (n := 1223) rfl (fun x225 p224 => ?_)
      refine x_icmp_eq dL_law_1223 (t := 1992) (by decide) (n := 1226) rfl (fun _ => ?_) (fun _ => ?_)
      · exact f_L_law_1992_ok hO hk23 v0 v1 v2 v3 v4 p224
      · refine x_iconst 0 dL_law_1226 rfl (n := 1227) rfl ?_
        exact x_nreturn rfl dL_law_1227
    · refine x_aload_nr 1 dL_law_1228 rfl rfl (n := 1229) rfl ?_
      refine x_aload_nr 0 dL_law_1229 rfl rfl (n := 1230) rfl ?_
      refine x_iload 4 dL_law_1230 rfl (n := 1232) rfl ?_
      refine x_iconst 1 dL_law_1232 rfl (n := 1233) rfl ?_
      refine x_iadd dL_law_1233 (n := 1234) rfl ?_
      refine x_iald (t := 0) rfl dL_law_1234 (n := 1235) rfl (fun x226 => ?_)
      refine x_aload_nr 0 dL_law_1235 rfl rfl (n := 1236) rfl ?_
      refine x_iload 4 dL_law_1236 rfl (n := 1238) rfl ?_
      refine x_iconst 2 dL_law_1238 rfl (n := 1239) rfl ?_
      refine x_iadd dL_law_1239 (n := 1240) rfl ?_
      refine x_iald (t := 0) rfl dL_law_1240 (n := 1241) rfl (fun x227 => ?_)
      refine x_callV_I [.int x226, .int x227] [] (f_X1_together_ok hO p0 v1 x226 x227) rc_X1_together md_X1_together rfl q2330 q2331 q2332 dL_law_1241 rfl rfl (by decide) (Nat.le_of_ble_eq_true rfl) (n := 1244) rfl (fun x229 p228 => ?_)
      refine x_aload_nr 2 dL_law_1244 rfl rfl (n := 1245) rfl ?_
      refine x_aload_nr 0 dL_law_1245 rfl rfl (n := 1246) rfl ?_
      refine x_iload 4 dL_law_1246 rfl (n := 1248) rfl ?_
      refine x_iconst 1 dL_law_1248 rfl (n := 1249) rfl ?_
      refine x_iadd dL_law_1249 (n := 1250) rfl ?_
      refine x_iald (t := 0) rfl dL_law_1250 (n := 1251) rfl (fun x230 => ?_)
      refine x_aload_nr 0 dL_law_1251 rfl rfl (n := 1252) rfl ?_
      refine x_iload 4 dL_law_1252 rfl (n := 1254) rfl ?_
      refine x_iconst 2 dL_law_1254 rfl (n := 1255) rfl ?_
      refine x_iadd dL_law_1255 (n := 1256) rfl ?_
      refine x_iald (t := 0) rfl dL_law_1256 (n := 1257) rfl (fun x231 => ?_)
      refine x_callV_I [.int x230, .int x231] [.int x229] (g_together_ok hO p228 v2 x230 x231) rc_X2_together md_X2_together rfl q3362 q3363 q3364 dL_law_1257 rfl rfl (by decide) (Nat.le_of_ble_eq_true rfl) (n := 1260) rfl (fun x233 p232 => ?_)
      refine x_icmp_eq dL_law_1260 (t := 1992) (by decide) (n := 1263) rfl (fun _ => ?_) (fun _ => ?_)
      · exact f_L_law_1992_ok hO hk23 v0 v1 v2 v3 v4 p232
      · refine x_iconst 0 dL_law_1263 rfl (n := 1264) rfl ?_
        exact x_nreturn rfl dL_law_1264
    · refine x_aload_nr 1 dL_law_1265 rfl rfl (n := 1266) rfl ?_
      refine x_aload_nr 0 dL_law_1266 rfl rfl (n := 1267) rfl ?_
      refine x_iload 4 dL_law_1267 rfl (n := 1269) rfl ?_
      refine x_iconst 1 dL_law_1269 rfl (n := 1270) rfl ?_
      refine x_iadd dL_law_1270 (n := 1271) rfl ?_
      refine x_iald (t := 0) rfl dL_law_1271 (n := 1272) rfl (fun x234 => ?_)
      refine x_callV_I [.int x234] [] (f_X1_alone_ok hO p0 v1 x234) rc_X1_alone md_X1_alone rfl q2350 q2351 q2352 dL_law_1272 rfl rfl (by decide) (Nat.le_of_ble_eq_true rfl) (n := 1275) rfl (fun x236 p235 => ?_)
      refine x_aload_nr 2 dL_law_1275 rfl rfl (n := 1276) rfl ?_
      refine x_aload_nr 0 dL_law_1276 rfl rfl (n := 1277) rfl ?_
      refine x_iload 4 dL_law_1277 rfl (n := 1279) rfl ?_
      refine x_iconst 1 dL_law_1279 rfl (n := 1280) rfl ?_
      refine x_iadd dL_law_1280 (n := 1281) rfl ?_
      refine x_iald (t := 0) rfl dL_law_1281 (n := 1282) rfl (fun x237 => ?_)
      refine x_callV_I [.int x237] [.int x236] (g_alone_ok hO p235 v2 x237) rc_X2_alone md_X2_alone rfl q3354 q3355 q3356 dL_law_1282 rfl rfl (by decide) (Nat.le_of_ble_eq_true rfl) (n := 1285) rfl (fun x239 p238 => ?_)
      refine x_icmp_eq dL_law_1285 (t := 1992) (by decide) (n := 1288) rfl (fun _ => ?_) (fun _ => ?_)
      · exact f_L_law_1992_ok hO hk23 v0 v1 v2 v3 v4 p238
      · refine x_iconst 0 dL_law_1288 rfl (n := 1289) rfl ?_
        exact x_nreturn rfl dL_law_1289
    · refine x_aload_nr 1 dL_law_1290 rfl rfl (n := 1291) rfl ?_
      refine x_aload_nr 0 dL_law_1291 rfl rfl (n := 1292) rfl ?_
      refine x_iload 4 dL_law_1292 rfl (n := 1294) rfl ?_
      refine x_iconst 1 dL_law_1294 rfl (n := 1295) rfl ?_
      refine x_iadd dL_law_1295 (n := 1296) rfl ?_
      refine x_iald (t := 0) rfl dL_law_1296 (n := 1297) rfl (fun x240 => ?_)
      refine x_aload_nr 0 dL_law_1297 rfl rfl (n := 1298) rfl ?_
      refine x_iload 4 dL_law_1298 rfl (n := 1300) rfl ?_
      refine x_iconst 2 dL_law_1300 rfl (n := 1301) rfl ?_
      refine x_iadd dL_law_1301 (n := 1302) rfl ?_
      refine x_iald (t := 0) rfl dL_law_1302 (n := 1303) rfl (fun x241 => ?_)
      refine x_aload_nr 0 dL_law_1303 rfl rfl (n := 1304) rfl ?_
      refine x_iload 4 dL_law_1304 rfl (n := 1306) rfl ?_
      refine x_iconst 3 dL_law_1306 rfl (n := 1307) rfl ?_
      refine x_iadd dL_law_1307 (n := 1308) rfl ?_
      refine x_iald (t := 0) rfl dL_law_1308 (n := 1309) rfl (fun x242 => ?_)
      refine x_callV_I [.int x240, .int x241, .int x242] [] (f_X1_chase_ok hO p0 v1 x240 x241 x242) rc_X1_chase md_X1_chase rfl q2355 q2356 q2357 dL_law_1309 rfl rfl (by decide) (Nat.le_of_ble_eq_true rfl) (n := 1312) rfl (fun x244 p243 => ?_)
      refine x_aload_nr 2 dL_law_1312 rfl rfl (n := 1313) rfl ?_
      refine x_aload_nr 0 dL_law_1313 rfl rfl (n := 1314) rfl ?_
      refine x_iload 4 dL_law_1314 rfl (n := 1316) rfl ?_
      refine x_iconst 1 dL_law_1316 rfl (n := 1317) rfl ?_
      refine x_iadd dL_law_1317 (n := 1318) rfl ?_
      refine x_iald (t := 0) rfl dL_law_1318 (n := 1319) rfl (fun x245 => ?_)
      refine x_aload_nr 0 dL_law_1319 rfl rfl (n := 1320) rfl ?_
      refine x_iload 4 dL_law_1320 rfl (n := 1322) rfl ?_
      refine x_iconst 2 dL_law_1322 rfl (n := 1323) rfl ?_
      refine x_iadd dL_law_1323 (n := 1324) rfl ?_
      refine x_iald (t := 0) rfl dL_law_1324 (n := 1325) rfl (fun x246 => ?_)
      refine x_aload_nr 0 dL_law_1325 rfl rfl (n := 1326) rfl ?_
      refine x_iload 4 dL_law_1326 rfl (n := 1328) rfl ?_
      refine x_iconst 3 dL_law_1328 rfl (n := 1329) rfl ?_
      refine x_iadd dL_law_1329 (n := 1330) rfl ?_
      refine x_iald (t := 0) rfl dL_law_1330 (n := 1331) rfl (fun x247 => ?_)
      refine x_callV_I [.int x245, .int x246, .int x247] [.int x244] (g_chase_ok hO p243 v2 x245 x246 x247) rc_X2_chase md_X2_chase rfl q3370 q3371 q3372 dL_law_1331 rfl rfl (by decide) (Nat.le_of_ble_eq_true rfl) (n := 1334) rfl (fun x249 p248 => ?_)
      refine x_icmp_eq dL_law_1334 (t := 1992) (by decide) (n := 1337) rfl (fun _ => ?_) (fun _ => ?_)
      · exact f_L_law_1992_ok hO hk23 v0 v1 v2 v3 v4 p248
      · refine x_iconst 0 dL_law_1337 rfl (n := 1338) rfl ?_
        exact x_nreturn rfl dL_law_1338
    · refine x_aload_nr 1 dL_law_1339 rfl rfl (n := 1340) rfl ?_
      refine x_aload_nr 0 dL_law_1340 rfl rfl (n := 1341) rfl ?_
      refine x_iload 4 dL_law_1341 rfl (n := 1343) rfl ?_
      refine x_iconst 1 dL_law_1343 rfl (n := 1344) rfl ?_
      refine x_iadd dL_law_1344 (n := 1345) rfl ?_
      refine x_iald (t := 0) rfl dL_law_1345 (n := 1346) rfl (fun x250 => ?_)
      refine x_aload_nr 0 dL_law_1346 rfl rfl (n := 1347) rfl ?_
      refine x_iload 4 dL_law_1347 rfl (n := 1349) rfl ?_
      refine x_iconst 2 dL_law_1349 rfl (n := 1350) rfl ?_
      refine x_iadd dL_law_1350 (n := 1351) rfl ?_
      refine x_iald (t := 0) rfl dL_law_1351 (n := 1352) rfl (fun x251 => ?_)
      refine x_callV_I [.int x250, .int x251] [] (f_X1_team_ok hO p0 v1 x250 x251) rc_X1_team md_X1_team rfl q2360 q2361 q2362 dL_law_1352 rfl rfl (by decide) (Nat.le_of_ble_eq_true rfl) (n := 1355) rfl (fun x253 p252 => ?_)
      refine x_aload_nr 2 dL_law_1355 rfl rfl (n := 1356) rfl ?_
      refine x_aload_nr 0 dL_law_1356 rfl rfl (n := 1357) rfl ?_
      refine x_iload 4 dL_law_1357 rfl (n := 1359) rfl ?_
      refine x_iconst 1 dL_law_1359 rfl (n := 1360) rfl ?_
      refine x_iadd dL_law_1360 (n := 1361) rfl ?_
      refine x_iald (t := 0) rfl dL_law_1361 (n := 1362) rfl (fun x254 => ?_)
      refine x_aload_nr 0 dL_law_1362 rfl rfl (n := 1363) rfl ?_
      refine x_iload 4 dL_law_1363 rfl (n := 1365) rfl ?_
      refine x_iconst 2 dL_law_1365 rfl (n := 1366) rfl ?_
      refine x_iadd dL_law_1366 (n := 1367) rfl ?_
      refine x_iald (t := 0) rfl dL_law_1367 (n := 1368) rfl (fun x255 => ?_)
      refine x_callV_I [.int x254, .int x255] [.int x253] (g_team_ok hO p252 v2 x254 x255) rc_X2_team md_X2_team rfl q3374 q3375 q3376 dL_law_1368 rfl rfl (by decide) (Nat.le_of_ble_eq_true rfl) (n := 1371) rfl (fun x257 p256 => ?_)
      refine x_icmp_eq dL_law_1371 (t := 1992) (by decide) (n := 1374) rfl (fun _ => ?_) (fun _ => ?_)
      · exact f_L_law_1992_ok hO hk23 v0 v1 v2 v3 v4 p256
      · refine x_iconst 0 dL_law_1374 rfl (n := 1375) rfl ?_
        exact x_nreturn rfl dL_law_1375
    · refine x_aload_nr 1 dL_law_1376 rfl rfl (n := 1377) rfl ?_
      refine x_aload_nr 0 dL_law_1377 rfl rfl (n := 1378) rfl ?_
      refine x_iload 4 dL_law_1378 rfl (n := 1380) rfl ?_
      refine x_iconst 1 dL_law_1380 rfl (n := 1381) rfl ?_
      refine x_iadd dL_law_1381 (n := 1382) rfl ?_
      refine x_iald (t := 0) rfl dL_law_1382 (n := 1383) rfl (fun x258 => ?_)
      refine x_callV_I [.int x258] [] (f_X1_mate_ok hO p0 v1 x258) rc_X1_mate md_X1_mate rfl q2369 q2370 q2371 dL_law_1383 rfl rfl (by decide) (Nat.le_of_ble_eq_true rfl) (n := 1386) rfl (fun x260 p259 => ?_)
      refine x_aload_nr 2 dL_law_1386 rfl rfl (n := 1387) rfl ?_
      refine x_aload_nr 0 dL_law_1387 rfl rfl (n := 1388) rfl ?_
      refine x_iload 4 dL_law_1388 rfl (n := 1390) rfl ?_
      refine x_iconst 1 dL_law_1390 rfl (n := 1391) rfl ?_
      refine x_iadd dL_law_1391 (n := 1392) rfl ?_
      refine x_iald (t := 0) rfl dL_law_1392 (n := 1393) rfl (fun x261 => ?_)
      refine x_callV_I [.int x261] [.int x260] (g_mate_ok hO p259 v2 x261) rc_X2_mate md_X2_mate rfl q3382 q3383 q3384 dL_law_1393 rfl rfl (by decide) (Nat.le_of_ble_eq_true rfl) (n := 1396) rfl (fun x263 p262 => ?_)
      refine x_icmp_eq dL_law_1396 (t := 1992) (by decide) (n := 1399) rfl (fun _ => ?_) (fun _ => ?_)
      · exact f_L_law_1992_ok hO hk23 v0 v1 v2 v3 v4 p262
      · refine x_iconst 0 dL_law_1399 rfl (n := 1400) rfl ?_
        exact x_nreturn rfl dL_law_1400
    · refine x_aload_nr 1 dL_law_1401 rfl rfl (n := 1402) rfl ?_
      refine x_aload_nr 0 dL_law_1402 rfl rfl (n := 1403) rfl ?_
      refine x_iload 4 dL_law_1403 rfl (n := 1405) rfl ?_
      refine x_iconst 1 dL_law_1405 rfl (n := 1406) rfl ?_
      refine x_iadd dL_law_1406 (n := 1407) rfl ?_
      refine x_iald (t := 0) rfl dL_law_1407 (n := 1408) rfl (fun x264 => ?_)
      refine x_aload_nr 0 dL_law_1408 rfl rfl (n := 1409) rfl ?_
      refine x_iload 4 dL_law_1409 rfl (n := 1411) rfl ?_
      refine x_iconst 2 dL_law_1411 rfl (n := 1412) rfl ?_
      refine x_iadd dL_law_1412 (n := 1413) rfl ?_
      refine x_iald (t := 0) rfl dL_law_1413 (n := 1414) rfl (fun x265 => ?_)
      refine x_callV_I [.int x264, .int x265] [] (f_X1_passes_ok hO p0 v1 x264 x265) rc_X1_passes md_X1_passes rfl q2373 q2374 q2375 dL_law_1414 rfl rfl (by decide) (Nat.le_of_ble_eq_true rfl) (n := 1417) rfl (fun x267 p266 => ?_)
      refine x_aload_nr 2 dL_law_1417 rfl rfl (n := 1418) rfl ?_
      refine x_aload_nr 0 dL_law_1418 rfl rfl (n := 1419) rfl ?_
      refine x_iload 4 dL_law_1419 rfl (n := 1421) rfl ?_
      refine x_iconst 1 dL_law_1421 rfl (n := 1422) rfl ?_
      refine x_iadd dL_law_1422 (n := 1423) rfl ?_
      refine x_iald (t := 0) rfl dL_law_1423 (n := 1424) rfl (fun x268 => ?_)
      refine x_aload_nr 0 dL_law_1424 rfl rfl (n := 1425) rfl ?_
      refine x_iload 4 dL_law_1425 rfl (n := 1427) rfl ?_
      refine x_iconst 2 dL_law_1427 rfl (n := 1428) rfl ?_
      refine x_iadd dL_law_1428 (n := 1429) rfl ?_
      refine x_iald (t := 0) rfl dL_law_1429 (n := 1430) rfl (fun x269 => ?_)
      refine x_callV_I [.int x268, .int x269] [.int x267] (g_passes_ok hO p266 v2 x268 x269) rc_X2_passes md_X2_passes rfl q3386 q3387 q3388 dL_law_1430 rfl rfl (by decide) (Nat.le_of_ble_eq_true rfl) (n := 1433) rfl (fun x271 p270 => ?_)
      refine x_icmp_eq dL_law_1433 (t := 1992) (by decide) (n := 1436) rfl (fun _ => ?_) (fun _ => ?_)
      · exact f_L_law_1992_ok hO hk23 v0 v1 v2 v3 v4 p270
      · refine x_iconst 0 dL_law_1436 rfl (n := 1437) rfl ?_
        exact x_nreturn rfl dL_law_1437
    · refine x_aload_nr 1 dL_law_1438 rfl rfl (n := 1439) rfl ?_
      refine x_aload_nr 0 dL_law_1439 rfl rfl (n := 1440) rfl ?_
      refine x_iload 4 dL_law_1440 rfl (n := 1442) rfl ?_
      refine x_iconst 1 dL_law_1442 rfl (n := 1443) rfl ?_
      refine x_iadd dL_law_1443 (n := 1444) rfl ?_
      refine x_iald (t := 0) rfl dL_law_1444 (n := 1445) rfl (fun x272 => ?_)
      refine x_callV_I [.int x272] [] (f_X1_crowd_ok hO p0 v1 x272) rc_X1_crowd md_X1_crowd rfl q2377 q2378 q2379 dL_law_1445 rfl rfl (by decide) (Nat.le_of_ble_eq_true rfl) (n := 1448) rfl (fun x274 p273 => ?_)
      refine x_aload_nr 2 dL_law_1448 rfl rfl (n := 1449) rfl ?_
      refine x_aload_nr 0 dL_law_1449 rfl rfl (n := 1450) rfl ?_
      refine x_iload 4 dL_law_1450 rfl (n := 1452) rfl ?_
      refine x_iconst 1 dL_law_1452 rfl (n := 1453) rfl ?_
      refine x_iadd dL_law_1453 (n := 1454) rfl ?_
      refine x_iald (t := 0) rfl dL_law_1454 (n := 1455) rfl (fun x275 => ?_)
      refine x_callV_I [.int x275] [.int x274] (g_crowd_ok hO p273 v2 x275) rc_X2_crowd md_X2_crowd rfl q3390 q3391 q3392 dL_law_1455 rfl rfl (by decide) (Nat.le_of_ble_eq_true rfl) (n := 1458) rfl (fun x277 p276 => ?_)
      refine x_icmp_eq dL_law_1458 (t := 1992) (by decide) (n := 1461) rfl (fun _ => ?_) (fun _ => ?_)
      · exact f_L_law_1992_ok hO hk23 v0 v1 v2 v3 v4 p276
      · refine x_iconst 0 dL_law_1461 rfl (n := 1462) rfl ?_
        exact x_nreturn rfl dL_law_1462
    · refine x_aload_nr 1 dL_law_1463 rfl rfl (n := 1464) rfl ?_
      refine x_aload_nr 0 dL_law_1464 rfl rfl (n := 1465) rfl ?_
      refine x_iload 4 dL_law_1465 rfl (n := 1467) rfl ?_
      refine x_iconst 1 dL_law_1467 rfl (n := 1468) rfl ?_
      refine x_iadd dL_law_1468 (n := 1469) rfl ?_
      refine x_iald (t := 0) rfl dL_law_1469 (n := 1470) rfl (fun x278 => ?_)
      refine x_aload_nr 0 dL_law_1470 rfl rfl (n := 1471) rfl ?_
      refine x_iload 4 dL_law_1471 rfl (n := 1473) rfl ?_
      refine x_iconst 2 dL_law_1473 rfl (n := 1474) rfl ?_
      refine x_iadd dL_law_1474 (n := 1475) rfl ?_
      refine x_iald (t := 0) rfl dL_law_1475 (n := 1476) rfl (fun x279 => ?_)
      refine x_aload_nr 0 dL_law_1476 rfl rfl (n := 1477) rfl ?_
      refine x_iload 4 dL_law_1477 rfl (n := 1479) rfl ?_
      refine x_iconst 3 dL_law_1479 rfl (n := 1480) rfl ?_
      refine x_iadd dL_law_1480 (n := 1481) rfl ?_
      refine x_iald (t := 0) rfl dL_law_1481 (n := 1482) rfl (fun x280 => ?_)
      refine x_callV_I [.int x278, .int x279, .int x280] [] (f_X1_over_ok hO p0 v1 x278 x279 x280) rc_X1_over md_X1_over rfl q2398 q2399 q2400 dL_law_1482 rfl rfl (by decide) (Nat.le_of_ble_eq_true rfl) (n := 1485) rfl (fun x282 p281 => ?_)
      refine x_aload_nr 2 dL_law_1485 rfl rfl (n := 1486) rfl ?_
      refine x_aload_nr 0 dL_law_1486 rfl rfl (n := 1487) rfl ?_
      refine x_iload 4 dL_law_1487 rfl (n := 1489) rfl ?_
      refine x_iconst 1 dL_law_1489 rfl (n := 1490) rfl ?_
      refine x_iadd dL_law_1490 (n := 1491) rfl ?_
      refine x_iald (t := 0) rfl dL_law_1491 (n := 1492) rfl (fun x283 => ?_)
      refine x_aload_nr 0 dL_law_1492 rfl rfl (n := 1493) rfl ?_
      refine x_iload 4 dL_law_1493 rfl (n := 1495) rfl ?_
      refine x_iconst 2 dL_law_1495 rfl (n := 1496) rfl ?_
      refine x_iadd dL_law_1496 (n := 1497) rfl ?_
      refine x_iald (t := 0) rfl dL_law_1497 (n := 1498) rfl (fun x284 => ?_)
      refine x_aload_nr 0 dL_law_1498 rfl rfl (n := 1499) rfl ?_
      refine x_iload 4 dL_law_1499 rfl (n := 1501) rfl ?_
      refine x_iconst 3 dL_law_1501 rfl (n := 1502) rfl ?_
      refine x_iadd dL_law_1502 (n := 1503) rfl ?_
      refine x_iald (t := 0) rfl dL_law_1503 (n := 1504) rfl (fun x285 => ?_)
      refine x_callV_I [.int x283, .int x284, .int x285] [.int x282] (g_over_ok hO p281 v2 x283 x284 x285) rc_X2_over md_X2_over rfl q3398 q3399 q3400 dL_law_1504 rfl rfl (by decide) (Nat.le_of_ble_eq_true rfl) (n := 1507) rfl (fun x287 p286 => ?_)
      refine x_icmp_eq dL_law_1507 (t := 1992) (by decide) (n := 1510) rfl (fun _ => ?_) (fun _ => ?_)
      · exact f_L_law_1992_ok hO hk23 v0 v1 v2 v3 v4 p286
      · refine x_iconst 0 dL_law_1510 rfl (n := 1511) rfl ?_
        exact x_nreturn rfl dL_law_1511
    · refine x_aload_nr 1 dL_law_1512 rfl rfl (n := 1513) rfl ?_
      refine x_aload_nr 0 dL_law_1513 rfl rfl (n := 1514) rfl ?_
      refine x_iload 4 dL_law_1514 rfl (n := 1516) rfl ?_
      refine x_iconst 1 dL_law_1516 rfl (n := 1517) rfl ?_
      refine x_iadd dL_law_1517 (n := 1518) rfl ?_
      refine x_iald (t := 0) rfl dL_law_1518 (n := 1519) rfl (fun x288 => ?_)
      refine x_aload_nr 0 dL_law_1519 rfl rfl (n := 1520) rfl ?_
      refine x_iload 4 dL_law_1520 rfl (n := 1522) rfl ?_
      refine x_iconst 2 dL_law_1522 rfl (n := 1523) rfl ?_
      refine x_iadd dL_law_1523 (n := 1524) rfl ?_
      refine x_iald (t := 0) rfl dL_law_1524 (n := 1525) rfl (fun x289 => ?_)
      refine x_callV_I [.int x288, .int x289] [] (f_X1_common_ok hO p0 v1 x288 x289) rc_X1_common md_X1_common rfl q2402 q2403 q2404 dL_law_1525 rfl rfl (by decide) (Nat.le_of_ble_eq_true rfl) (n := 1528) rfl (fun x291 p290 => ?_)
      refine x_aload_nr 2 dL_law_1528 rfl rfl (n := 1529) rfl ?_
      refine x_aload_nr 0 dL_law_1529 rfl rfl (n := 1530) rfl ?_
      refine x_iload 4 dL_law_1530 rfl (n := 1532) rfl ?_
      refine x_iconst 1 dL_law_1532 rfl (n := 1533) rfl ?_
      refine x_iadd dL_law_1533 (n := 1534) rfl ?_
      refine x_iald (t := 0) rfl dL_law_1534 (n := 1535) rfl (fun x292 => ?_)
      refine x_aload_nr 0 dL_law_1535 rfl rfl (n := 1536) rfl ?_
      refine x_iload 4 dL_law_1536 rfl (n := 1538) rfl ?_
      refine x_iconst 2 dL_law_1538 rfl (n := 1539) rfl ?_
      refine x_iadd dL_law_1539 (n := 1540) rfl ?_
      refine x_iald (t := 0) rfl dL_law_1540 (n := 1541) rfl (fun x293 => ?_)
      refine x_callV_I [.int x292, .int x293] [.int x291] (g_common_ok hO p290 v2 x292 x293) rc_X2_common md_X2_common rfl q3402 q3403 q3404 dL_law_1541 rfl rfl (by decide) (Nat.le_of_ble_eq_true rfl) (n := 1544) rfl (fun x295 p294 => ?_)
      refine x_icmp_eq dL_law_1544 (t := 1992) (by decide) (n := 1547) rfl (fun _ => ?_) (fun _ => ?_)
      · exact f_L_law_1992_ok hO hk23 v0 v1 v2 v3 v4 p294
      · refine x_iconst 0 dL_law_1547 rfl (n := 1548) rfl ?_
        exact x_nreturn rfl dL_law_1548
    · refine x_aload_nr 1 dL_law_1549 rfl rfl (n := 1550) rfl ?_
      refine x_aload_nr 0 dL_law_1550 rfl rfl (n := 1551) rfl ?_
      refine x_iload 4 dL_law_1551 rfl (n := 1553) rfl ?_
      refine x_iconst 1 dL_law_1553 rfl (n := 1554) rfl ?_
      refine x_iadd dL_law_1554 (n := 1555) rfl ?_
      refine x_iald (t := 0) rfl dL_law_1555 (n := 1556) rfl (fun x296 => ?_)
      refine x_aload_nr 0 dL_law_1556 rfl rfl (n := 1557) rfl ?_
      refine x_iload 4 dL_law_1557 rfl (n := 1559) rfl ?_
      refine x_iconst 2 dL_law_1559 rfl (n := 1560) rfl ?_
      refine x_iadd dL_law_1560 (n := 1561) rfl ?_
      refine x_iald (t := 0) rfl dL_law_1561 (n := 1562) rfl (fun x297 => ?_)
      refine x_aload_nr 0 dL_law_1562 rfl rfl (n := 1563) rfl ?_
      refine x_iload 4 dL_law_1563 rfl (n := 1565) rfl ?_
      refine x_iconst 3 dL_law_1565 rfl (n := 1566) rfl ?_
      refine x_iadd dL_law_1566 (n := 1567) rfl ?_
      refine x_iald (t := 0) rfl dL_law_1567 (n := 1568) rfl (fun x298 => ?_)
      refine x_callV_I [.int x296, .int x297, .int x298] [] (f_X1_add_ok hO p0 v1 x296 x297 x298) rc_X1_add md_X1_add rfl q2699 q2700 q2701 dL_law_1568 rfl rfl (by decide) (Nat.le_of_ble_eq_true rfl) (n := 1571) rfl (fun x300 p299 => ?_)
      refine x_aload_nr 2 dL_law_1571 rfl rfl (n := 1572) rfl ?_
      refine x_aload_nr 0 dL_law_1572 rfl rfl (n := 1573) rfl ?_
      refine x_iload 4 dL_law_1573 rfl (n := 1575) rfl ?_
      refine x_iconst 1 dL_law_1575 rfl (n := 1576) rfl ?_
      refine x_iadd dL_law_1576 (n := 1577) rfl ?_
      refine x_iald (t := 0) rfl dL_law_1577 (n := 1578) rfl (fun x301 => ?_)
      refine x_aload_nr 0 dL_law_1578 rfl rfl (n := 1579) rfl ?_
      refine x_iload 4 dL_law_1579 rfl (n := 1581) rfl ?_
      refine x_iconst 2 dL_law_1581 rfl (n := 1582) rfl ?_
      refine x_iadd dL_law_1582 (n := 1583) rfl ?_
      refine x_iald (t := 0) rfl dL_law_1583 (n := 1584) rfl (fun x302 => ?_)
      refine x_aload_nr 0 dL_law_1584 rfl rfl (n := 1585) rfl ?_
      refine x_iload 4 dL_law_1585 rfl (n := 1587) rfl ?_
      refine x_iconst 3 dL_law_1587 rfl (n := 1588) rfl ?_
      refine x_iadd dL_law_1588 (n := 1589) rfl ?_
      refine x_iald (t := 0) rfl dL_law_1589 (n := 1590) rfl (fun x303 => ?_)
      refine x_callV_I [.int x301, .int x302, .int x303] [.int x300] (g_add_ok hO p299 v2 x301 x302 x303) rc_X2_add md_X2_add rfl q3410 q3411 q3412 dL_law_1590 rfl rfl (by decide) (Nat.le_of_ble_eq_true rfl) (n := 1593) rfl (fun x305 p304 => ?_)
      refine x_icmp_eq dL_law_1593 (t := 1992) (by decide) (n := 1596) rfl (fun _ => ?_) (fun _ => ?_)
      · exact f_L_law_1992_ok hO hk23 v0 v1 v2 v3 v4 p304
      · refine x_iconst 0 dL_law_1596 rfl (n := 1597) rfl ?_
        exact x_nreturn rfl dL_law_1597
    · refine x_aload_nr 1 dL_law_1598 rfl rfl (n := 1599) rfl ?_
      refine x_aload_nr 0 dL_law_1599 rfl rfl (n := 1600) rfl ?_
      refine x_iload 4 dL_law_1600 rfl (n := 1602) rfl ?_
      refine x_iconst 1 dL_law_1602 rfl (n := 1603) rfl ?_
      refine x_iadd dL_law_1603 (n := 1604) rfl ?_
      refine x_iald (t := 0) rfl dL_law_1604 (n := 1605) rfl (fun x306 => ?_)
      refine x_aload_nr 0 dL_law_1605 rfl rfl (n := 1606) rfl ?_
      refine x_iload 4 dL_law_1606 rfl (n := 1608) rfl ?_
      refine x_iconst 2 dL_law_1608 rfl (n := 1609) rfl ?_
      refine x_iadd dL_law_1609 (n := 1610) rfl ?_
      refine x_iald (t := 0) rfl dL_law_1610 (n := 1611) rfl (fun x307 => ?_)
      refine x_callV_I [.int x306, .int x307] [] (f_X1_drop_ok hO p0 v1 x306 x307) rc_X1_drop md_X1_drop rfl q2810 q2811 q2812 dL_law_1611 rfl rfl (by decide) (Nat.le_of_ble_eq_true rfl) (n := 1614) rfl (fun x309 p308 => ?_)
      refine x_aload_nr 2 dL_law_1614 rfl rfl (n := 1615) rfl ?_
      refine x_aload_nr 0 dL_law_1615 rfl rfl (n := 1616) rfl ?_
      refine x_iload 4 dL_law_1616 rfl (n := 1618) rfl ?_
      refine x_iconst 1 dL_law_1618 rfl (n := 1619) rfl ?_
      refine x_iadd dL_law_1619 (n := 1620) rfl ?_
      refine x_iald (t := 0) rfl dL_law_1620 (n := 1621) rfl (fun x310 => ?_)
      refine x_aload_nr 0 dL_law_1621 rfl rfl (n := 1622) rfl ?_
      refine x_iload 4 dL_law_1622 rfl (n := 1624) rfl ?_
      refine x_iconst 2 dL_law_1624 rfl (n := 1625) rfl ?_
      refine x_iadd dL_law_1625 (n := 1626) rfl ?_
      refine x_iald (t := 0) rfl dL_law_1626 (n := 1627) rfl (fun x311 => ?_)
      refine x_callV_I [.int x310, .int x311] [.int x309] (g_drop_ok hO p308 v2 x310 x311) rc_X2_drop md_X2_drop rfl q3418 q3419 q3420 dL_law_1627 rfl rfl (by decide) (Nat.le_of_ble_eq_true rfl) (n := 1630) rfl (fun x313 p312 => ?_)
      refine x_icmp_eq dL_law_1630 (t := 1992) (by decide) (n := 1633) rfl (fun _ => ?_) (fun _ => ?_)
      · exact f_L_law_1992_ok hO hk23 v0 v1 v2 v3 v4 p312
      · refine x_iconst 0 dL_law_1633 rfl (n := 1634) rfl ?_
        exact x_nreturn rfl dL_law_1634
    · refine x_aload_nr 1 dL_law_1635 rfl rfl (n := 1636) rfl ?_
      refine x_aload_nr 0 dL_law_1636 rfl rfl (n := 1637) rfl ?_
      refine x_iload 4 dL_law_1637 rfl (n := 1639) rfl ?_
      refine x_iconst 1 dL_law_1639 rfl (n := 1640) rfl ?_
      refine x_iadd dL_law_1640 (n := 1641) rfl ?_
      refine x_iald (t := 0) rfl dL_law_1641 (n := 1642) rfl (fun x314 => ?_)
      refine x_aload_nr 0 dL_law_1642 rfl rfl (n := 1643) rfl ?_
      refine x_iload 4 dL_law_1643 rfl (n := 1645) rfl ?_
      refine x_iconst 2 dL_law_1645 rfl (n := 1646) rfl ?_
      refine x_iadd dL_law_1646 (n := 1647) rfl ?_
      refine x_iald (t := 0) rfl dL_law_1647 (n := 1648) rfl (fun x315 => ?_)
      refine x_callV_I [.int x314, .int x315] [] (f_X1_start_ok hO p0 v1 x314 x315) rc_X1_start md_X1_start rfl q2821 q2822 q2823 dL_law_1648 rfl rfl (by decide) (Nat.le_of_ble_eq_true rfl) (n := 1651) rfl (fun x317 p316 => ?_)
      refine x_aload_nr 2 dL_law_1651 rfl rfl (n := 1652) rfl ?_
      refine x_aload_nr 0 dL_law_1652 rfl rfl (n := 1653) rfl ?_
      refine x_iload 4 dL_law_1653 rfl (n := 1655) rfl ?_
      refine x_iconst 1 dL_law_1655 rfl (n := 1656) rfl ?_
      refine x_iadd dL_law_1656 (n := 1657) rfl ?_
      refine x_iald (t := 0) rfl dL_law_1657 (n := 1658) rfl (fun x318 => ?_)
      refine x_aload_nr 0 dL_law_1658 rfl rfl (n := 1659) rfl ?_
      refine x_iload 4 dL_law_1659 rfl (n := 1661) rfl ?_
      refine x_iconst 2 dL_law_1661 rfl (n := 1662) rfl ?_
      refine x_iadd dL_law_1662 (n := 1663) rfl ?_
      refine x_iald (t := 0) rfl dL_law_1663 (n := 1664) rfl (fun x319 => ?_)
      refine x_callV_I [.int x318, .int x319] [.int x317] (g_start_ok hO p316 v2 x318 x319) rc_X2_start md_X2_start rfl q3422 q3423 q3424 dL_law_1664 rfl rfl (by decide) (Nat.le_of_ble_eq_true rfl) (n := 1667) rfl (fun x321 p320 => ?_)
      refine x_icmp_eq dL_law_1667 (t := 1992) (by decide) (n := 1670) rfl (fun _ => ?_) (fun _ => ?_)
      · exact f_L_law_1992_ok hO hk23 v0 v1 v2 v3 v4 p320
      · refine x_iconst 0 dL_law_1670 rfl (n := 1671) rfl ?_
        exact x_nreturn rfl dL_law_1671
    · refine x_aload_nr 1 dL_law_1672 rfl rfl (n := 1673) rfl ?_
      refine x_aload_nr 0 dL_law_1673 rfl rfl (n := 1674) rfl ?_
      refine x_iload 4 dL_law_1674 rfl (n := 1676) rfl ?_
      refine x_iconst 1 dL_law_1676 rfl (n := 1677) rfl ?_
      refine x_iadd dL_law_1677 (n := 1678) rfl ?_
      refine x_iald (t := 0) rfl dL_law_1678 (n := 1679) rfl (fun x322 => ?_)
      refine x_aload_nr 0 dL_law_1679 rfl rfl (n := 1680) rfl ?_
      refine x_iload 4 dL_law_1680 rfl (n := 1682) rfl ?_
      refine x_iconst 2 dL_law_1682 rfl (n := 1683) rfl ?_
      refine x_iadd dL_law_1683 (n := 1684) rfl ?_
      refine x_iald (t := 0) rfl dL_law_1684 (n := 1685) rfl (fun x323 => ?_)
      refine x_callV_I [.int x322, .int x323] [] (f_X1_finish_ok hO p0 v1 x322 x323) rc_X1_finish md_X1_finish rfl q2825 q2826 q2827 dL_law_1685 rfl rfl (by decide) (Nat.le_of_ble_eq_true rfl) (n := 1688) rfl (fun x325 p324 => ?_)
      refine x_aload_nr 2 dL_law_1688 rfl rfl (n := 1689) rfl ?_
      refine x_aload_nr 0 dL_law_1689 rfl rfl (n := 1690) rfl ?_
      refine x_iload 4 dL_law_1690 rfl (n := 1692) rfl ?_
      refine x_iconst 1 dL_law_1692 rfl (n := 1693) rfl ?_
      refine x_iadd dL_law_1693 (n := 1694) rfl ?_
      refine x_iald (t := 0) rfl dL_law_1694 (n := 1695) rfl (fun x326 => ?_)
      refine x_aload_nr 0 dL_law_1695 rfl rfl (n := 1696) rfl ?_
      refine x_iload 4 dL_law_1696 rfl (n := 1698) rfl ?_
      refine x_iconst 2 dL_law_1698 rfl (n := 1699) rfl ?_
      refine x_iadd dL_law_1699 (n := 1700) rfl ?_
      refine x_iald (t := 0) rfl dL_law_1700 (n := 1701) rfl (fun x327 => ?_)
      refine x_callV_I [.int x326, .int x327] [.int x325] (g_finish_ok hO p324 v2 x326 x327) rc_X2_finish md_X2_finish rfl q3430 q3431 q3432 dL_law_1701 rfl rfl (by decide) (Nat.le_of_ble_eq_true rfl) (n := 1704) rfl (fun x329 p328 => ?_)
      refine x_icmp_eq dL_law_1704 (t := 1992) (by decide) (n := 1707) rfl (fun _ => ?_) (fun _ => ?_)
      · exact f_L_law_1992_ok hO hk23 v0 v1 v2 v3 v4 p328
      · refine x_iconst 0 dL_law_1707 rfl (n := 1708) rfl ?_
        exact x_nreturn rfl dL_law_1708
    · refine x_aload_nr 1 dL_law_1709 rfl rfl (n := 1710) rfl ?_
      refine x_aload_nr 0 dL_law_1710 rfl rfl (n := 1711) rfl ?_
      refine x_iload 4 dL_law_1711 rfl (n := 1713) rfl ?_
      refine x_iconst 1 dL_law_1713 rfl (n := 1714) rfl ?_
      refine x_iadd dL_law_1714 (n := 1715) rfl ?_
      refine x_iald (t := 0) rfl dL_law_1715 (n := 1716) rfl (fun x330 => ?_)
      refine x_aload_nr 0 dL_law_1716 rfl rfl (n := 1717) rfl ?_
      refine x_iload 4 dL_law_1717 rfl (n := 1719) rfl ?_
      refine x_iconst 2 dL_law_1719 rfl (n := 1720) rfl ?_
      refine x_iadd dL_law_1720 (n := 1721) rfl ?_
      refine x_iald (t := 0) rfl dL_law_1721 (n := 1722) rfl (fun x331 => ?_)
      refine x_callV_I [.int x330, .int x331] [] (f_X1_move_ok hO p0 v1 x330 x331) rc_X1_move md_X1_move rfl q2829 q2830 q2831 dL_law_1722 rfl rfl (by decide) (Nat.le_of_ble_eq_true rfl) (n := 1725) rfl (fun x333 p332 => ?_)
      refine x_aload_nr 2 dL_law_1725 rfl rfl (n := 1726) rfl ?_
      refine x_aload_nr 0 dL_law_1726 rfl rfl (n := 1727) rfl ?_
      refine x_iload 4 dL_law_1727 rfl (n := 1729) rfl ?_
      refine x_iconst 1 dL_law_1729 rfl (n := 1730) rfl ?_
      refine x_iadd dL_law_1730 (n := 1731) rfl ?_
      refine x_iald (t := 0) rfl dL_law_1731 (n := 1732) rfl (fun x334 => ?_)
      refine x_aload_nr 0 dL_law_1732 rfl rfl (n := 1733) rfl ?_
      refine x_iload 4 dL_law_1733 rfl (n := 1735) rfl ?_
      refine x_iconst 2 dL_law_1735 rfl (n := 1736) rfl ?_
      refine x_iadd dL_law_1736 (n := 1737) rfl ?_
      refine x_iald (t := 0) rfl dL_law_1737 (n := 1738) rfl (fun x335 => ?_)
      refine x_callV_I [.int x334, .int x335] [.int x333] (g_move_ok hO p332 v2 x334 x335) rc_X2_move md_X2_move rfl q3434 q3435 q3436 dL_law_1738 rfl rfl (by decide) (Nat.le_of_ble_eq_true rfl) (n := 1741) rfl (fun x337 p336 => ?_)
      refine x_icmp_eq dL_law_1741 (t := 1992) (by decide) (n := 1744) rfl (fun _ => ?_) (fun _ => ?_)
      · exact f_L_law_1992_ok hO hk23 v0 v1 v2 v3 v4 p336
      · refine x_iconst 0 dL_law_1744 rfl (n := 1745) rfl ?_
        exact x_nreturn rfl dL_law_1745
    · refine x_aload_nr 1 dL_law_1746 rfl rfl (n := 1747) rfl ?_
      refine x_aload_nr 0 dL_law_1747 rfl rfl (n := 1748) rfl ?_
      refine x_iload 4 dL_law_1748 rfl (n := 1750) rfl ?_
      refine x_iconst 1 dL_law_1750 rfl (n := 1751) rfl ?_
      refine x_iadd dL_law_1751 (n := 1752) rfl ?_
      refine x_iald (t := 0) rfl dL_law_1752 (n := 1753) rfl (fun x338 => ?_)
      refine x_aload_nr 0 dL_law_1753 rfl rfl (n := 1754) rfl ?_
      refine x_iload 4 dL_law_1754 rfl (n := 1756) rfl ?_
      refine x_iconst 2 dL_law_1756 rfl (n := 1757) rfl ?_
      refine x_iadd dL_law_1757 (n := 1758) rfl ?_
      refine x_iald (t := 0) rfl dL_law_1758 (n := 1759) rfl (fun x339 => ?_)
      refine x_callV_I [.int x338, .int x339] [] (f_X1_become_ok hO p0 v1 x338 x339) rc_X1_become md_X1_become rfl q2833 q2834 q2835 dL_law_1759 rfl rfl (by decide) (Nat.le_of_ble_eq_true rfl) (n := 1762) rfl (fun x341 p340 => ?_)
      refine x_aload_nr 2 dL_law_1762 rfl rfl (n := 1763) rfl ?_
      refine x_aload_nr 0 dL_law_1763 rfl rfl (n := 1764) rfl ?_
      refine x_iload 4 dL_law_1764 rfl (n := 1766) rfl ?_
      refine x_iconst 1 dL_law_1766 rfl (n := 1767) rfl ?_
      refine x_iadd dL_law_1767 (n := 1768) rfl ?_
      refine x_iald (t := 0) rfl dL_law_1768 (n := 1769) rfl (fun x342 => ?_)
      refine x_aload_nr 0 dL_law_1769 rfl rfl (n := 1770) rfl ?_
      refine x_iload 4 dL_law_1770 rfl (n := 1772) rfl ?_
      refine x_iconst 2 dL_law_1772 rfl (n := 1773) rfl ?_
      refine x_iadd dL_law_1773 (n := 1774) rfl ?_
      refine x_iald (t := 0) rfl dL_law_1774 (n := 1775) rfl (fun x343 => ?_)
      refine x_callV_I [.int x342, .int x343] [.int x341] (g_become_ok hO p340 v2 x342 x343) rc_X2_become md_X2_become rfl q3438 q3439 q3440 dL_law_1775 rfl rfl (by decide) (Nat.le_of_ble_eq_true rfl) (n := 1778) rfl (fun x345 p344 => ?_)
      refine x_icmp_eq dL_law_1778 (t := 1992) (by decide) (n := 1781) rfl (fun _ => ?_) (fun _ => ?_)
      · exact f_L_law_1992_ok hO hk23 v0 v1 v2 v3 v4 p344
      · refine x_iconst 0 dL_law_1781 rfl (n := 1782) rfl ?_
        exact x_nreturn rfl dL_law_1782
    · refine x_aload_nr 1 dL_law_1783 rfl rfl (n := 1784) rfl ?_
      refine x_aload_nr 0 dL_law_1784 rfl rfl (n := 1785) rfl ?_
      refine x_iload 4 dL_law_1785 rfl (n := 1787) rfl ?_
      refine x_iconst 1 dL_law_1787 rfl (n := 1788) rfl ?_
      refine x_iadd dL_law_1788 (n := 1789) rfl ?_
      refine x_iald (t := 0) rfl dL_law_1789 (n := 1790) rfl (fun x346 => ?_)
      refine x_aload_nr 0 dL_law_1790 rfl rfl (n := 1791) rfl ?_
      refine x_iload 4 dL_law_1791 rfl (n := 1793) rfl ?_
      refine x_iconst 2 dL_law_1793 rfl (n := 1794) rfl ?_
      refine x_iadd dL_law_1794 (n := 1795) rfl ?_
      refine x_iald (t := 0) rfl dL_law_1795 (n := 1796) rfl (fun x347 => ?_)
      refine x_aload_nr 0 dL_law_1796 rfl rfl (n := 1797) rfl ?_
      refine x_iload 4 dL_law_1797 rfl (n := 1799) rfl ?_
      refine x_iconst 3 dL_law_1799 rfl (n := 1800) rfl ?_
      refine x_iadd dL_law_1800 (n := 1801) rfl ?_
      refine x_iald (t := 0) rfl dL_law_1801 (n := 1802) rfl (fun x348 => ?_)
      refine x_callV_I [.int x346, .int x347, .int x348] [] (f_X1_recode_ok hO p0 v1 x346 x347 x348) rc_X1_recode md_X1_recode rfl q2837 q2838 q2839 dL_law_1802 rfl rfl (by decide) (Nat.le_of_ble_eq_true rfl) (n := 1805) rfl (fun x350 p349 => ?_)
      refine x_aload_nr 2 dL_law_1805 rfl rfl (n := 1806) rfl ?_
      refine x_aload_nr 0 dL_law_1806 rfl rfl (n := 1807) rfl ?_
      refine x_iload 4 dL_law_1807 rfl (n := 1809) rfl ?_
      refine x_iconst 1 dL_law_1809 rfl (n := 1810) rfl ?_
      refine x_iadd dL_law_1810 (n := 1811) rfl ?_
      refine x_iald (t := 0) rfl dL_law_1811 (n := 1812) rfl (fun x351 => ?_)
      refine x_aload_nr 0 dL_law_1812 rfl rfl (n := 1813) rfl ?_
      refine x_iload 4 dL_law_1813 rfl (n := 1815) rfl ?_
      refine x_iconst 2 dL_law_1815 rfl (n := 1816) rfl ?_
      refine x_iadd dL_law_1816 (n := 1817) rfl ?_
      refine x_iald (t := 0) rfl dL_law_1817 (n := 1818) rfl (fun x352 => ?_)
      refine x_aload_nr 0 dL_law_1818 rfl rfl (n := 1819) rfl ?_
      refine x_iload 4 dL_law_1819 rfl (n := 1821) rfl ?_
      refine x_iconst 3 dL_law_1821 rfl (n := 1822) rfl ?_
      refine x_iadd dL_law_1822 (n := 1823) rfl ?_
      refine x_iald (t := 0) rfl dL_law_1823 (n := 1824) rfl (fun x353 => ?_)
      refine x_callV_I [.int x351, .int x352, .int x353] [.int x350] (g_recode_ok hO p349 v2 x351 x352 x353) rc_X2_recode md_X2_recode rfl q3442 q3443 q3444 dL_law_1824 rfl rfl (by decide) (Nat.le_of_ble_eq_true rfl) (n := 1827) rfl (fun x355 p354 => ?_)
      refine x_icmp_eq dL_law_1827 (t := 1992) (by decide) (n := 1830) rfl (fun _ => ?_) (fun _ => ?_)
      · exact f_L_law_1992_ok hO hk23 v0 v1 v2 v3 v4 p354
      · refine x_iconst 0 dL_law_1830 rfl (n := 1831) rfl ?_
        exact x_nreturn rfl dL_law_1831
    · refine x_aload_nr 1 dL_law_1832 rfl rfl (n := 1833) rfl ?_
      refine x_aload_nr 0 dL_law_1833 rfl rfl (n := 1834) rfl ?_
      refine x_iload 4 dL_law_1834 rfl (n := 1836) rfl ?_
      refine x_iconst 1 dL_law_1836 rfl (n := 1837) rfl ?_
      refine x_iadd dL_law_1837 (n := 1838) rfl ?_
      refine x_iald (t := 0) rfl dL_law_1838 (n := 1839) rfl (fun x356 => ?_)
      refine x_aload_nr 0 dL_law_1839 rfl rfl (n := 1840) rfl ?_
      refine x_iload 4 dL_law_1840 rfl (n := 1842) rfl ?_
      refine x_iconst 2 dL_law_1842 rfl (n := 1843) rfl ?_
      refine x_iadd dL_law_1843 (n := 1844) rfl ?_
      refine x_iald (t := 0) rfl dL_law_1844 (n := 1845) rfl (fun x357 => ?_)
      refine x_callV_I [.int x356, .int x357] [] (f_X1_cancel_ok hO p0 v1 x356 x357) rc_X1_cancel md_X1_cancel rfl q2856 q2857 q2858 dL_law_1845 rfl rfl (by decide) (Nat.le_of_ble_eq_true rfl) (n := 1848) rfl (fun x359 p358 => ?_)
      refine x_aload_nr 2 dL_law_1848 rfl rfl (n := 1849) rfl ?_
      refine x_aload_nr 0 dL_law_1849 rfl rfl (n := 1850) rfl ?_
      refine x_iload 4 dL_law_1850 rfl (n := 1852) rfl ?_
      refine x_iconst 1 dL_law_1852 rfl (n := 1853) rfl ?_
      refine x_iadd dL_law_1853 (n := 1854) rfl ?_
      refine x_iald (t := 0) rfl dL_law_1854 (n := 1855) rfl (fun x360 => ?_)
      refine x_aload_nr 0 dL_law_1855 rfl rfl (n := 1856) rfl ?_
      refine x_iload 4 dL_law_1856 rfl (n := 1858) rfl ?_
      refine x_iconst 2 dL_law_1858 rfl (n := 1859) rfl ?_
      refine x_iadd dL_law_1859 (n := 1860) rfl ?_
      refine x_iald (t := 0) rfl dL_law_1860 (n := 1861) rfl (fun x361 => ?_)
      refine x_callV_I [.int x360, .int x361] [.int x359] (g_cancel_ok hO p358 v2 x360 x361) rc_X2_cancel md_X2_cancel rfl q3450 q3451 q3452 dL_law_1861 rfl rfl (by decide) (Nat.le_of_ble_eq_true rfl) (n := 1864) rfl (fun x363 p362 => ?_)
      refine x_icmp_eq dL_law_1864 (t := 1992) (by decide) (n := 1867) rfl (fun _ => ?_) (fun _ => ?_)
      · exact f_L_law_1992_ok hO hk23 v0 v1 v2 v3 v4 p362
      · refine x_iconst 0 dL_law_1867 rfl (n := 1868) rfl ?_
        exact x_nreturn rfl dL_law_1868
    · refine x_aload_nr 1 dL_law_1869 rfl rfl (n := 1870) rfl ?_
      refine x_callV_I [] [] (f_X1_undo_ok hO p0 v1 ) rc_X1_undo md_X1_undo rfl q2860 q2861 q2862 dL_law_1870 rfl rfl (by decide) (Nat.le_of_ble_eq_true rfl) (n := 1873) rfl (fun x365 p364 => ?_)
      refine x_aload_nr 2 dL_law_1873 rfl rfl (n := 1874) rfl ?_
      refine x_callV_I [] [.int x365] (g_undo_ok hO p364 v2 ) rc_X2_undo md_X2_undo rfl q3458 q3459 q3460 dL_law_1874 rfl rfl (by decide) (Nat.le_of_ble_eq_true rfl) (n := 1877) rfl (fun x367 p366 => ?_)
      refine x_icmp_eq dL_law_1877 (t := 1992) (by decide) (n := 1880) rfl (fun _ => ?_) (fun _ => ?_)
      · exact f_L_law_1992_ok hO hk23 v0 v1 v2 v3 v4 p366
      · refine x_iconst 0 dL_law_1880 rfl (n := 1881) rfl ?_
        exact x_nreturn rfl dL_law_1881
    · refine x_aload_nr 1 dL_law_1882 rfl rfl (n := 1883) rfl ?_
      refine x_aload_nr 0 dL_law_1883 rfl rfl (n := 1884) rfl ?_
      refine x_iload 4 dL_law_1884 rfl (n := 1886) rfl ?_
      refine x_iconst 1 dL_law_1886 rfl (n := 1887) rfl ?_
      refine x_iadd dL_law_1887 (n := 1888) rfl ?_
      refine x_iald (t := 0) rfl dL_law_1888 (n := 1889) rfl (fun x368 => ?_)
      refine x_aload_nr 0 dL_law_1889 rfl rfl (n := 1890) rfl ?_
      refine x_iload 4 dL_law_1890 rfl (n := 1892) rfl ?_
      refine x_iconst 2 dL_law_1892 rfl (n := 1893) rfl ?_
      refine x_iadd dL_law_1893 (n := 1894) rfl ?_
      refine x_iald (t := 0) rfl dL_law_1894 (n := 1895) rfl (fun x369 => ?_)
      refine x_if_eq dL_law_1895 (t := 1902) (by decide) (n := 1898) rfl (fun _ => ?_) (fun _ => ?_)
      · refine x_iconst 0 dL_law_1902 rfl (n := 1903) rfl ?_
        exact f_L_law_1903_ok hO hk23 v0 v1 v2 v3 v4 v1 x368 0 p0
      · refine x_iconst 1 dL_law_1898 rfl (n := 1899) rfl ?_
        refine x_goto dL_law_1899 (n := 1903) (by decide) ?_
        exact f_L_law_1903_ok hO hk23 v0 v1 v2 v3 v4 v1 x368 1 p0
    · refine x_aload_nr 1 dL_law_1966 rfl rfl (n := 1967) rfl ?_
      refine x_callV_I [] [] (f_X1_size_ok hO p0 v1 ) rc_X1_size md_X1_size rfl q2874 q2875 q2876 dL_law_1967 rfl rfl (by decide) (Nat.le_of_ble_eq_true rfl) (n := 1970) rfl (fun x380 p379 => ?_)
      refine x_aload_nr 2 dL_law_1970 rfl rfl (n := 1971) rfl ?_
      refine x_callV_I [] [.int x380] (g_size_ok hO p379 v2 ) rc_X2_size md_X2_size rfl q3466 q3467 q3468 dL_law_1971 rfl rfl (by decide) (Nat.le_of_ble_eq_true rfl) (n := 1974) rfl (fun x382 p381 => ?_)
      refine x_icmp_eq dL_law_1974 (t := 1992) (by decide) (n := 1977) rfl (fun _ => ?_) (fun _ => ?_)
      · exact f_L_law_1992_ok hO hk23 v0 v1 v2 v3 v4 p381
      · refine x_iconst 0 dL_law_1977 rfl (n := 1978) rfl ?_
        exact x_nreturn rfl dL_law_1978
    · refine x_aload_nr 1 dL_law_1979 rfl rfl (n := 1980) rfl ?_
      refine x_callV_I [] [] (f_X1_trouble_ok hO p0 v1 ) rc_X1_trouble md_X1_trouble rfl q2878 q2879 q2880 dL_law_1980 rfl rfl (by decide) (Nat.le_of_ble_eq_true rfl) (n := 1983) rfl (fun x384 p383 => ?_)
      refine x_aload_nr 2 dL_law_1983 rfl rfl (n := 1984) rfl ?_
      refine x_callV_I [] [.int x384] (g_trouble_ok hO p383 v2 ) rc_X2_trouble md_X2_trouble rfl q3470 q3471 q3472 dL_law_1984 rfl rfl (by decide) (Nat.le_of_ble_eq_true rfl) (n := 1987) rfl (fun x386 p385 => ?_)
      refine x_icmp_eq dL_law_1987 (t := 1992) (by decide) (n := 1990) rfl (fun _ => ?_) (fun _ => ?_)
      · exact f_L_law_1992_ok hO hk23 v0 v1 v2 v3 v4 p385
      · refine x_iconst 0 dL_law_1990 rfl (n := 1991) rfl ?_
        exact x_nreturn rfl dL_law_1991
theorem f_L_law_23_lp {G : xG} (hO : xOK G)   (n : Nat) (v0 : Nat) (v1 : Nat) (v2 : Nat) (v3 : Nat) (v4 : Int32) (p0 : PH) : X G "ForestLegsLaw" "law" cL_law 7 (Option.some Jvm.ClassFile.FieldType.boolean) 62 23 [(0, .ref v0), (1, .ref v1), (2, .ref v2), (3, .ref v3), (4, .int v4)] [] p0 (lp (f_L_law_23F) n (v0, v1, v2, v3, v4, p0)) :=
  lp_ok (W := fun p K => X G "ForestLegsLaw" "law" cL_law 7 (Option.some Jvm.ClassFile.FieldType.boolean) 62 23 [(0, .ref p.1), (1, .ref p.2.1), (2, .ref p.2.2.1), (3, .ref p.2.2.2.1), (4, .int p.2.2.2.2.1)] [] p.2.2.2.2.2 K) (fun _ => x_no) (fun k hk => fun (v0, v1, v2, v3, v4, p0) => f_L_law_23F_ok hO (fun v0 v1 v2 v3 v4 p0 => hk (v0, v1, v2, v3, v4, p0)) v0 v1 v2 v3 v4 p0) n (v0, v1, v2, v3, v4, p0)
theorem f_L_law_ok {G : xG} (hO : xOK G) (p0 : PH) (a0 : Nat) : X G "ForestLegsLaw" "law" cL_law 7 (Option.some Jvm.ClassFile.FieldType.boolean) 62 0 [(0, .ref a0)] [] p0 (f_L_law p0 a0) := by
  unfold f_L_law
  refine x_new cl_0 (by decide) q180 q181 q123 rfl dL_law_0 (n := 3) rfl (fun b1 p2 => ?_)
  refine x_dup dL_law_3 rfl (n := 4) rfl ?_
  refine x_callI_V [] [.ref b1] (f_X1_init_ok hO p2 b1 ) md_X1_init rfl q182 q183 dL_law_4 rfl rfl (by decide) (Nat.le_of_ble_eq_true rfl) (n := 7) rfl (fun p3 => ?_)
  refine x_astore_nr [(1, .ref b1), (0, .ref a0)] dL_law_7 rfl (by decide) rfl (n := 8) rfl ?_
  refine x_new cl_1 (by decide) q2897 q2898 q126 rfl dL_law_8 (n := 11) rfl (fun b4 p5 => ?_)
  refine x_dup dL_law_11 rfl (n := 12) rfl ?_
  refine x_callI_V [] [.ref b4] (f_X2_init_ok hO p5 b4 ) md_X2_init rfl q2899 q2900 dL_law_12 rfl rfl (by decide) (Nat.le_of_ble_eq_true rfl) (n := 15) rfl (fun p6 => ?_)
  refine x_astore_nr [(2, .ref b4), (1, .ref b1), (0, .ref a0)] dL_law_15 rfl (by decide) rfl (n := 16) rfl ?_
  refine x_iconst 1 dL_law_16 rfl (n := 17) rfl ?_
  refine x_newL (t := 3) (atype := .long) rfl q3474 rfl (by decide) dL_law_17 (n := 19) rfl (fun b7 p8 => ?_)
  refine x_astore_nr [(3, .ref b7), (2, .ref b4), (1, .ref b1), (0, .ref a0)] dL_law_19 rfl (by decide) rfl (n := 20) rfl ?_
  refine x_iconst 0 dL_law_20 rfl (n := 21) rfl ?_
  refine x_istore [(4, .int 0), (3, .ref b7), (2, .ref b4), (1, .ref b1), (0, .ref a0)] dL_law_21 (by decide) rfl (n := 23) rfl ?_
  refine x_sub [4, 3, 2, 1, 0] [(0, .ref a0), (1, .ref b1), (2, .ref b4), (3, .ref b7), (4, .int 0)] rfl ?_
  exact f_L_law_23_lp hO FU a0 b1 b4 b7 0 p8
