/-! PRINTED: the component, 119 to 158 -/
set_option maxRecDepth 100000
theorem dJ6_charAt_0 : decode cJ6_charAt 0 = .ok (.iload_n 1, 1) := by decide +kernel
theorem dJ6_charAt_1 : decode cJ6_charAt 1 = .ok (.aload_n 0, 1) := by decide +kernel
theorem dJ6_charAt_2 : decode cJ6_charAt 2 = .ok (.arraylength, 1) := by decide +kernel
theorem dJ6_charAt_3 : decode cJ6_charAt 3 = .ok (.invokestatic 9, 3) := by decide +kernel
theorem dJ6_charAt_6 : decode cJ6_charAt 6 = .ok (.aload_n 0, 1) := by decide +kernel
theorem dJ6_charAt_7 : decode cJ6_charAt 7 = .ok (.iload_n 1, 1) := by decide +kernel
theorem dJ6_charAt_8 : decode cJ6_charAt 8 = .ok (.baload, 1) := by decide +kernel
theorem dJ6_charAt_9 : decode cJ6_charAt 9 = .ok (.sipush 255, 3) := by decide +kernel
theorem dJ6_charAt_12 : decode cJ6_charAt 12 = .ok (.iand, 1) := by decide +kernel
theorem dJ6_charAt_13 : decode cJ6_charAt 13 = .ok (.i2c, 1) := by decide +kernel
theorem dJ6_charAt_14 : decode cJ6_charAt 14 = .ok (.ireturn, 1) := by decide +kernel
theorem mw_J6_charAt : MW yJ6_charAt (Cond.code yJ6_charAt cJ6_charAt 2 (Option.some Jvm.ClassFile.FieldType.char)) cJ6_charAt 2 (Option.some Jvm.ClassFile.FieldType.char) 2 := ⟨rfl, ⟨(lw_all_tbl q620), rfl, (lw_all_tbl q182)⟩, rfl, ⟨by decide, by decide⟩, by decide +kernel⟩
noncomputable def c_J6_charAt (l0 : Int) (l1 : Int) : Mo CH Int :=
  bnd (bln l0) fun v1 =>
  bnd (c_J5_checkIndex l1 v1) fun _ =>
  bnd (bld l0 l1) fun v2 =>
  pr (i2c (iand v2 255))
theorem sc_J6_charAt (g : gC) (d : Nat) (ts : TS) (l0 : Int) (l1 : Int) (hl1 : R32 l1) : SF g yJ6_charAt (Cond.code yJ6_charAt cJ6_charAt 2 (Option.some Jvm.ClassFile.FieldType.char)) (Option.some Jvm.ClassFile.FieldType.char) (d + 2) [vA g l0, vI l1] (fun h => (h, ts)) (c_J6_charAt l0 l1) := by
  refine SF.of (lv := [(0, vA g l0), (1, vI l1)]) (by decide) (wt_A (wt_I wt_0)) rfl (by simp only [la_A, la_I, la_J, la_0]) (fun Γ hg hnm o => ?_)
  subst hg
  have o : Ok Γ "java/lang/StringLatin1" cJ6_charAt 2 (Option.some Jvm.ClassFile.FieldType.char) (d + 2) := o
  unfold c_J6_charAt
  refine s_iload_n o dJ6_charAt_0 rfl 1 rfl ?_
  refine s_aload_n o dJ6_charAt_1 rfl 0 rfl ?_
  refine s_bln o dJ6_charAt_2 (fun v1 hv1 => ?_)
  refine s_cs (d := d + 1) (As := [vI l1, vI v1]) (st := []) o (sc_J5_checkIndex (mg Γ) d ts l1 v1 hl1 (rN hv1)) mw_J5_checkIndex rfl (Or.inl (lw_all_tbl q621)) (lw_all_tbl q622) wt_0 rfl dJ6_charAt_3 rfl (rs := fun _ => []) (fun _ => rfl) (fun _ _ => ?_)
  refine s_aload_n o dJ6_charAt_6 rfl 0 rfl ?_
  refine s_iload_n o dJ6_charAt_7 rfl 1 rfl ?_
  refine s_bld o hl1 dJ6_charAt_8 (fun v2 hv2 => ?_)
  refine s_sipush o dJ6_charAt_9 rfl ?_
  refine s_iand o dJ6_charAt_12 ?_
  refine s_i2c o dJ6_charAt_13 ?_
  exact s_iret o rfl i_char (i2c_R _) dJ6_charAt_14 (fun _ hh => hh)
theorem dJ5_charAt_0 : decode cJ5_charAt 0 = .ok (.aload_n 0, 1) := by decide +kernel
theorem dJ5_charAt_1 : decode cJ5_charAt 1 = .ok (.invokevirtual 492, 3) := by decide +kernel
theorem dJ5_charAt_4 : decode cJ5_charAt 4 = .ok (.ifCond .eq 12, 3) := by decide +kernel
theorem dJ5_charAt_7 : decode cJ5_charAt 7 = .ok (.aload_n 0, 1) := by decide +kernel
theorem dJ5_charAt_8 : decode cJ5_charAt 8 = .ok (.getfield 9, 3) := by decide +kernel
theorem dJ5_charAt_11 : decode cJ5_charAt 11 = .ok (.iload_n 1, 1) := by decide +kernel
theorem dJ5_charAt_12 : decode cJ5_charAt 12 = .ok (.invokestatic 495, 3) := by decide +kernel
theorem dJ5_charAt_15 : decode cJ5_charAt 15 = .ok (.ireturn, 1) := by decide +kernel
theorem dJ5_charAt_16 : decode cJ5_charAt 16 = .ok (.aload_n 0, 1) := by decide +kernel
theorem dJ5_charAt_17 : decode cJ5_charAt 17 = .ok (.getfield 9, 3) := by decide +kernel
theorem dJ5_charAt_20 : decode cJ5_charAt 20 = .ok (.iload_n 1, 1) := by decide +kernel
theorem dJ5_charAt_21 : decode cJ5_charAt 21 = .ok (.invokestatic 498, 3) := by decide +kernel
theorem dJ5_charAt_24 : decode cJ5_charAt 24 = .ok (.ireturn, 1) := by decide +kernel
theorem mw_J5_charAt : MW yJ5_charAt (Cond.code yJ5_charAt cJ5_charAt 2 (Option.some Jvm.ClassFile.FieldType.char)) cJ5_charAt 2 (Option.some Jvm.ClassFile.FieldType.char) 1 := ⟨rfl, ⟨(lw_all_tbl q613), rfl, (lw_all_tbl q181)⟩, rfl, ⟨by decide, by decide⟩, by decide +kernel⟩
noncomputable def c_J5_charAt (l0 : Int) (l1 : Int) : Mo CH Int :=
  bnd (iss l0) fun _ =>
  bnd (c_J5_isLatin1 l0) fun v1 =>
  if v1 = 0 then
    bnd (gsv l0) fun v2 =>
    no
  else
    bnd (gsv l0) fun v3 =>
    bnd (c_J6_charAt v3 l1) fun v4 =>
    pr v4
theorem sc_J5_charAt (g : gC) (d : Nat) (ts : TS) (l0 : Int) (l1 : Int) (hl1 : R32 l1) : SF g yJ5_charAt (Cond.code yJ5_charAt cJ5_charAt 2 (Option.some Jvm.ClassFile.FieldType.char)) (Option.some Jvm.ClassFile.FieldType.char) (d + 3) [vA g l0, vI l1] (fun h => (h, ts)) (c_J5_charAt l0 l1) := by
  refine SF.of (lv := [(0, vA g l0), (1, vI l1)]) (by decide) (wt_A (wt_I wt_0)) rfl (by simp only [la_A, la_I, la_J, la_0]) (fun Γ hg hnm o => ?_)
  subst hg
  have o : Ok Γ "java/lang/String" cJ5_charAt 2 (Option.some Jvm.ClassFile.FieldType.char) (d + 3) := o
  unfold c_J5_charAt
  refine s_aload_n o dJ5_charAt_0 rfl 0 rfl ?_
  refine s_cvS (d := d + 2) (As := []) (st := []) o (sc_J5_isLatin1 (mg Γ) (d + 2) ts l0) mw_J5_isLatin1 rfl (Or.inl (lw_all_tbl q614)) (lw_all_tbl q616) (lw_all_tbl q615) wt_0 rfl dJ5_charAt_1 rfl (rs := fun r => [vI r]) (fun _ => rfl) (fun v1 hv1 => ?_)
  refine s_if_eq (tgt := 16) o dJ5_charAt_4 (by decide) (rZ (hv1 _ rfl)) ?_ ?_
  · refine s_aload_n o dJ5_charAt_16 rfl 0 rfl ?_
    refine s_gsv o (lw_all_tbl q3534) dJ5_charAt_17 (fun v2 => ?_)
    refine s_iload_n o dJ5_charAt_20 rfl 1 rfl ?_
    exact s_no
  · refine s_aload_n o dJ5_charAt_7 rfl 0 rfl ?_
    refine s_gsv o (lw_all_tbl q3534) dJ5_charAt_8 (fun v3 => ?_)
    refine s_iload_n o dJ5_charAt_11 rfl 1 rfl ?_
    refine s_cs (d := d + 2) (As := [vA (mg Γ) v3, vI l1]) (st := []) o (sc_J6_charAt (mg Γ) d ts v3 l1 hl1) mw_J6_charAt rfl (Or.inl (lw_all_tbl q618)) (lw_all_tbl q619) wt_0 rfl dJ5_charAt_12 rfl (rs := fun r => [vI r]) (fun _ => rfl) (fun v4 hv4 => ?_)
    exact s_iret o rfl i_char (hv4 _ rfl) dJ5_charAt_15 (fun _ hh => hh)
theorem dJ5_coder_0 : decode cJ5_coder 0 = .ok (.getstatic 38, 3) := by decide +kernel
theorem dJ5_coder_3 : decode cJ5_coder 3 = .ok (.ifCond .eq 10, 3) := by decide +kernel
theorem dJ5_coder_6 : decode cJ5_coder 6 = .ok (.aload_n 0, 1) := by decide +kernel
theorem dJ5_coder_7 : decode cJ5_coder 7 = .ok (.getfield 15, 3) := by decide +kernel
theorem dJ5_coder_10 : decode cJ5_coder 10 = .ok (.goto 4, 3) := by decide +kernel
theorem dJ5_coder_13 : decode cJ5_coder 13 = .ok (.iconst 1, 1) := by decide +kernel
theorem dJ5_coder_14 : decode cJ5_coder 14 = .ok (.ireturn, 1) := by decide +kernel
theorem mw_J5_coder : MW yJ5_coder (Cond.code yJ5_coder cJ5_coder 1 (Option.some Jvm.ClassFile.FieldType.byte)) cJ5_coder 1 (Option.some Jvm.ClassFile.FieldType.byte) 0 := ⟨rfl, ⟨(lw_all_tbl q607), rfl, (lw_all_tbl q181)⟩, rfl, ⟨by decide, by decide⟩, by decide +kernel⟩
noncomputable def c_J5_coder (l0 : Int) : Mo CH Int :=
  if (1 : Int) = 0 then
    pr 1
  else
    bnd (gsc l0) fun v1 =>
    pr v1
theorem sc_J5_coder (g : gC) (d : Nat) (ts : TS) (l0 : Int) : SF g yJ5_coder (Cond.code yJ5_coder cJ5_coder 1 (Option.some Jvm.ClassFile.FieldType.byte)) (Option.some Jvm.ClassFile.FieldType.byte) (d + 0) [vA g l0] (fun h => (h, ts)) (c_J5_coder l0) := by
  refine SF.of (lv := [(0, vA g l0)]) (by decide) (wt_A wt_0) rfl (by simp only [la_A, la_I, la_J, la_0]) (fun Γ hg hnm o => ?_)
  subst hg
  have o : Ok Γ "java/lang/String" cJ5_coder 1 (Option.some Jvm.ClassFile.FieldType.byte) (d + 0) := o
  unfold c_J5_coder
  refine s_gsZ o (lw_all_tbl q608) dJ5_coder_0 ?_
  refine s_if_eq (tgt := 13) o dJ5_coder_3 (by decide) (r32 rfl) ?_ ?_
  · refine s_iconst o dJ5_coder_13 ?_
    exact s_iret o rfl i_byte (rBl rfl) dJ5_coder_14 (fun _ hh => hh)
  · refine s_aload_n o dJ5_coder_6 rfl 0 rfl ?_
    refine s_gsc o (lw_all_tbl q3535) dJ5_coder_7 (fun v1 hv1 => ?_)
    refine s_goto (tgt := 14) o dJ5_coder_10 (by decide) ?_
    exact s_iret o rfl i_byte hv1 dJ5_coder_14 (fun _ hh => hh)
theorem dJ5_length_0 : decode cJ5_length 0 = .ok (.aload_n 0, 1) := by decide +kernel
theorem dJ5_length_1 : decode cJ5_length 1 = .ok (.getfield 9, 3) := by decide +kernel
theorem dJ5_length_4 : decode cJ5_length 4 = .ok (.arraylength, 1) := by decide +kernel
theorem dJ5_length_5 : decode cJ5_length 5 = .ok (.aload_n 0, 1) := by decide +kernel
theorem dJ5_length_6 : decode cJ5_length 6 = .ok (.invokevirtual 335, 3) := by decide +kernel
theorem dJ5_length_9 : decode cJ5_length 9 = .ok (.ishr, 1) := by decide +kernel
theorem dJ5_length_10 : decode cJ5_length 10 = .ok (.ireturn, 1) := by decide +kernel
theorem mw_J5_length : MW yJ5_length (Cond.code yJ5_length cJ5_length 1 (Option.some Jvm.ClassFile.FieldType.int)) cJ5_length 1 (Option.some Jvm.ClassFile.FieldType.int) 0 := ⟨rfl, ⟨(lw_all_tbl q603), rfl, (lw_all_tbl q181)⟩, rfl, ⟨by decide, by decide⟩, by decide +kernel⟩
noncomputable def c_J5_length (l0 : Int) : Mo CH Int :=
  bnd (gsv l0) fun v1 =>
  bnd (bln v1) fun v2 =>
  bnd (iss l0) fun _ =>
  bnd (c_J5_coder l0) fun v3 =>
  pr (ishr v2 v3)
theorem sc_J5_length (g : gC) (d : Nat) (ts : TS) (l0 : Int) : SF g yJ5_length (Cond.code yJ5_length cJ5_length 1 (Option.some Jvm.ClassFile.FieldType.int)) (Option.some Jvm.ClassFile.FieldType.int) (d + 1) [vA g l0] (fun h => (h, ts)) (c_J5_length l0) := by
  refine SF.of (lv := [(0, vA g l0)]) (by decide) (wt_A wt_0) rfl (by simp only [la_A, la_I, la_J, la_0]) (fun Γ hg hnm o => ?_)
  subst hg
  have o : Ok Γ "java/lang/String" cJ5_length 1 (Option.some Jvm.ClassFile.FieldType.int) (d + 1) := o
  unfold c_J5_length
  refine s_aload_n o dJ5_length_0 rfl 0 rfl ?_
  refine s_gsv o (lw_all_tbl q3534) dJ5_length_1 (fun v1 => ?_)
  refine s_bln o dJ5_length_4 (fun v2 hv2 => ?_)
  refine s_aload_n o dJ5_length_5 rfl 0 rfl ?_
  refine s_cvS (d := d + 0) (As := []) (st := [vI v2]) o (sc_J5_coder (mg Γ) d ts l0) mw_J5_coder rfl (Or.inl (lw_all_tbl q604)) (lw_all_tbl q606) (lw_all_tbl q605) (wt_I wt_0) rfl dJ5_length_6 rfl (rs := fun r => [vI r, vI v2]) (fun _ => rfl) (fun v3 hv3 => ?_)
  refine s_ishr o dJ5_length_9 ?_
  exact s_iret o rfl i_int (ishr_R _ _) dJ5_length_10 (fun _ hh => hh)
theorem dX2_sign_0 : decode cX2_sign 0 = .ok (.aload_n 0, 1) := by decide +kernel
theorem dX2_sign_1 : decode cX2_sign 1 = .ok (.getfield 15, 3) := by decide +kernel
theorem dX2_sign_4 : decode cX2_sign 4 = .ok (.sipush 12000, 3) := by decide +kernel
theorem dX2_sign_7 : decode cX2_sign 7 = .ok (.if_icmp .ge 13, 3) := by decide +kernel
theorem dX2_sign_10 : decode cX2_sign 10 = .ok (.aload_n 0, 1) := by decide +kernel
theorem dX2_sign_11 : decode cX2_sign 11 = .ok (.getfield 9, 3) := by decide +kernel
theorem dX2_sign_14 : decode cX2_sign 14 = .ok (.aload_n 0, 1) := by decide +kernel
theorem dX2_sign_15 : decode cX2_sign 15 = .ok (.getfield 15, 3) := by decide +kernel
theorem dX2_sign_18 : decode cX2_sign 18 = .ok (.iload_n 1, 1) := by decide +kernel
theorem dX2_sign_19 : decode cX2_sign 19 = .ok (.castore, 1) := by decide +kernel
theorem dX2_sign_20 : decode cX2_sign 20 = .ok (.aload_n 0, 1) := by decide +kernel
theorem dX2_sign_21 : decode cX2_sign 21 = .ok (.dup, 1) := by decide +kernel
theorem dX2_sign_22 : decode cX2_sign 22 = .ok (.getfield 15, 3) := by decide +kernel
theorem dX2_sign_25 : decode cX2_sign 25 = .ok (.iconst 1, 1) := by decide +kernel
theorem dX2_sign_26 : decode cX2_sign 26 = .ok (.iadd, 1) := by decide +kernel
theorem dX2_sign_27 : decode cX2_sign 27 = .ok (.putfield 15, 3) := by decide +kernel
theorem dX2_sign_30 : decode cX2_sign 30 = .ok (.return_, 1) := by decide +kernel
theorem mw_X2_sign : MW yX2_sign (Cond.code yX2_sign cX2_sign 2 (Option.none : Option Jvm.ClassFile.FieldType)) cX2_sign 2 (Option.none : Option Jvm.ClassFile.FieldType) 1 := ⟨rfl, ⟨(lw_all_tbl q1942), rfl, (lw_all_tbl q164)⟩, rfl, ⟨by decide, by decide⟩, by decide +kernel⟩
noncomputable def c_X2_sign_20  (l0 : Int) : Mo CH Int :=
  bnd (gf [102] 1 l0) fun v1 =>
  bnd (pf [102] 1 l0 (w32 (v1 + 1))) fun _ =>
  pr 0
theorem sc_X2_sign_20 {Γ : Gm} {ts : TS} {d : Nat} (o : Ok Γ "LazyForge$Writer" cX2_sign 2 (Option.none : Option Jvm.ClassFile.FieldType) (d + 0))   (l0 : Int) : Sx Γ (fun h => (h, ts)) (fun a s => mt Γ = (0, a, ((s, ts) : Wd))) 20 [(0, vA (mg Γ) l0)] [] (c_X2_sign_20 l0) := by
  unfold c_X2_sign_20
  refine s_aload_n o dX2_sign_20 rfl 0 rfl ?_
  refine s_dup o dX2_sign_21 (vA_cat (mg Γ) l0) ?_
  refine r_getf vI rfl o cf_X2_size (Or.inl (lw_all_tbl q226)) dX2_sign_22 (fun v1 hv1 => ?_)
  refine s_iconst o dX2_sign_25 ?_
  refine s_iadd o dX2_sign_26 ?_
  refine r_putf vI rfl o cf_X2_size (Or.inl (lw_all_tbl q226)) dX2_sign_27 (Or.inl rfl) (w32_R _) ty_int ?_
  exact s_vret o rfl dX2_sign_30 (fun _ hh => hh)
noncomputable def c_X2_sign (l0 : Int) (l1 : Int) : Mo CH Int :=
  bnd (gf [102] 1 l0) fun v1 =>
  if 12000 ≤ v1 then
    c_X2_sign_20 l0
  else
    bnd (gf [102] 0 l0) fun v2 =>
    bnd (gf [102] 1 l0) fun v3 =>
    bnd (ast 2 v2 v3 l1) fun _ =>
    c_X2_sign_20 l0
theorem sc_X2_sign (g : gC) (d : Nat) (ts : TS) (l0 : Int) (l1 : Int) (hl1 : rg .char l1) : SF g yX2_sign (Cond.code yX2_sign cX2_sign 2 (Option.none : Option Jvm.ClassFile.FieldType)) (Option.none : Option Jvm.ClassFile.FieldType) (d + 0) [vA g l0, vI l1] (fun h => (h, ts)) (c_X2_sign l0 l1) := by
  refine SF.of (lv := [(0, vA g l0), (1, vI l1)]) (by decide) (wt_A (wt_I wt_0)) rfl (by simp only [la_A, la_I, la_J, la_0]) (fun Γ hg hnm o => ?_)
  subst hg
  have o : Ok Γ "LazyForge$Writer" cX2_sign 2 (Option.none : Option Jvm.ClassFile.FieldType) (d + 0) := o
  unfold c_X2_sign
  refine s_aload_n o dX2_sign_0 rfl 0 rfl ?_
  refine r_getf vI rfl o cf_X2_size (Or.inl (lw_all_tbl q226)) dX2_sign_1 (fun v1 hv1 => ?_)
  refine s_sipush o dX2_sign_4 rfl ?_
  refine s_icmp_ge (tgt := 20) o dX2_sign_7 (by decide) hv1 (r32 rfl) ?_ ?_
  · refine r_to [(0, vA (mg Γ) l0)] [0] rfl ?_
    exact sc_X2_sign_20 o l0
  · refine s_aload_n o dX2_sign_10 rfl 0 rfl ?_
    refine r_getf (vA (mg Γ)) rfl o cf_X2_signs (Or.inl (lw_all_tbl q224)) dX2_sign_11 (fun v2 hv2 => ?_)
    refine s_aload_n o dX2_sign_14 rfl 0 rfl ?_
    refine r_getf vI rfl o cf_X2_size (Or.inl (lw_all_tbl q226)) dX2_sign_15 (fun v3 hv3 => ?_)
    refine s_iload_n o dX2_sign_18 rfl 1 rfl ?_
    refine r_cast o hv3 hl1 dX2_sign_19 ?_
    refine r_to [(0, vA (mg Γ) l0)] [0] rfl ?_
    exact sc_X2_sign_20 o l0
theorem dX2_text_0 : decode cX2_text 0 = .ok (.iconst 0, 1) := by decide +kernel
theorem dX2_text_1 : decode cX2_text 1 = .ok (.istore_n 2, 1) := by decide +kernel
theorem dX2_text_2 : decode cX2_text 2 = .ok (.iload_n 2, 1) := by decide +kernel
theorem dX2_text_3 : decode cX2_text 3 = .ok (.aload_n 1, 1) := by decide +kernel
theorem dX2_text_4 : decode cX2_text 4 = .ok (.invokevirtual 19, 3) := by decide +kernel
theorem dX2_text_7 : decode cX2_text 7 = .ok (.if_icmp .ge 18, 3) := by decide +kernel
theorem dX2_text_10 : decode cX2_text 10 = .ok (.aload_n 0, 1) := by decide +kernel
theorem dX2_text_11 : decode cX2_text 11 = .ok (.aload_n 1, 1) := by decide +kernel
theorem dX2_text_12 : decode cX2_text 12 = .ok (.iload_n 2, 1) := by decide +kernel
theorem dX2_text_13 : decode cX2_text 13 = .ok (.invokevirtual 25, 3) := by decide +kernel
theorem dX2_text_16 : decode cX2_text 16 = .ok (.invokevirtual 29, 3) := by decide +kernel
theorem dX2_text_19 : decode cX2_text 19 = .ok (.iinc 2 1, 3) := by decide +kernel
theorem dX2_text_22 : decode cX2_text 22 = .ok (.goto (-20), 3) := by decide +kernel
theorem dX2_text_25 : decode cX2_text 25 = .ok (.return_, 1) := by decide +kernel
theorem mw_X2_text : MW yX2_text (Cond.code yX2_text cX2_text 3 (Option.none : Option Jvm.ClassFile.FieldType)) cX2_text 3 (Option.none : Option Jvm.ClassFile.FieldType) 1 := ⟨rfl, ⟨(lw_all_tbl q1936), rfl, (lw_all_tbl q164)⟩, rfl, ⟨by decide, by decide⟩, by decide +kernel⟩
abbrev okc_X2_text_2 (x : Int × Int × Int) : Prop := R32 x.2.2
abbrev lvc_X2_text_2 (Γ : Gm) (x : Int × Int × Int) : List (Nat × Value) := [(0, vA (mg Γ) x.1), (1, vA (mg Γ) x.2.1), (2, vI x.2.2)]
noncomputable def c_X2_text_2b {A : Type} (k_25 : Mo CH A) (l0 : Int) (l1 : Int) (l2 : Int) : Mo CH ((Int × Int × Int) ⊕ A) :=
  bnd (iss l1) fun _ =>
  bnd (c_J5_length l1) fun v1 =>
  if v1 ≤ l2 then
    lo k_25
  else
    bnd (iss l1) fun _ =>
    bnd (c_J5_charAt l1 l2) fun v2 =>
    bnd (isk 102 l0) fun _ =>
    bnd (c_X2_sign l0 v2) fun _ =>
    pr (.inl (l0, l1, (w32 (l2 + 1))))
theorem sc_X2_text_2b {Γ : Gm} {ts : TS} {d : Nat} (o : Ok Γ "LazyForge$Writer" cX2_text 3 (Option.none : Option Jvm.ClassFile.FieldType) (d + 4)) {A : Type} {K : A → CH → Prop} (k_25 : Mo CH A) (hk_25 : Sx Γ (fun h => (h, ts)) K 25 [] [] (k_25)) (l0 : Int) (l1 : Int) (l2 : Int) (hl2 : R32 l2) : Sx Γ (fun h => (h, ts)) (KL Γ (fun h => (h, ts)) okc_X2_text_2 K 2 (lvc_X2_text_2 Γ) []) 2 [(0, vA (mg Γ) l0), (1, vA (mg Γ) l1), (2, vI l2)] [] (c_X2_text_2b k_25 l0 l1 l2) := by
  unfold c_X2_text_2b
  refine s_iload_n o dX2_text_2 rfl 2 rfl ?_
  refine s_aload_n o dX2_text_3 rfl 1 rfl ?_
  refine s_cvS (d := d + 3) (As := []) (st := [vI l2]) o (sc_J5_length (mg Γ) (d + 2) ts l1) mw_J5_length rfl (Or.inl (lw_all_tbl q1937)) (lw_all_tbl q602) (lw_all_tbl q601) (wt_I wt_0) rfl dX2_text_4 rfl (rs := fun r => [vI r, vI l2]) (fun _ => rfl) (fun v1 hv1 => ?_)
  refine s_icmp_ge (tgt := 25) o dX2_text_7 (by decide) hl2 (hv1 _ rfl) ?_ ?_
  · refine r_to [] [] rfl ?_
    exact s_lo hk_25
  · refine s_aload_n o dX2_text_10 rfl 0 rfl ?_
    refine s_aload_n o dX2_text_11 rfl 1 rfl ?_
    refine s_iload_n o dX2_text_12 rfl 2 rfl ?_
    refine s_cvS (d := d + 3) (As := [vI l2]) (st := [vA (mg Γ) l0]) o (sc_J5_charAt (mg Γ) d ts l1 l2 hl2) mw_J5_charAt rfl (Or.inl (lw_all_tbl q1938)) (lw_all_tbl q612) (lw_all_tbl q611) (wt_A wt_0) rfl dX2_text_13 rfl (rs := fun r => [vI r, vA (mg Γ) l0]) (fun _ => rfl) (fun v2 hv2 => ?_)
    refine s_cvC (d := d + 3) (As := [vI v2]) (st := []) (c := 2) o (sc_X2_sign (mg Γ) (d + 3) ts l0 v2 (hv2 _ rfl)) mw_X2_sign rfl (Or.inl (lw_all_tbl q1939)) rfl (lw_all_tbl q1941) (lw_all_tbl q1940) wt_0 rfl dX2_text_16 rfl (rs := fun _ => []) (fun _ => rfl) (fun _ _ => ?_)
    refine r_iinc (j := 2) o dX2_text_19 rfl rfl [(0, vA (mg Γ) l0), (1, vA (mg Γ) l1)] [0, 1] rfl ⟨(Nat.ne_of_beq_eq_false rfl), (fun _ => (vA_cat (mg Γ) l0)), ⟨(Nat.ne_of_beq_eq_false rfl), (fun _ => (vA_cat (mg Γ) l1)), trivial⟩⟩ ?_
    refine s_goto (tgt := 2) o dX2_text_22 (by decide) ?_
    refine r_to [(0, vA (mg Γ) l0), (1, vA (mg Γ) l1), (2, vI (w32 (l2 + 1)))] [1, 2, 0] rfl ?_
    exact s_back (w32_R _) rfl
noncomputable def c_X2_text_2 {A : Type} (k_25 : Mo CH A) (l0 : Int) (l1 : Int) (l2 : Int) : Mo CH A := Loop (fun x => c_X2_text_2b k_25 x.1 x.2.1 x.2.2) (l0, l1, l2)
theorem sc_X2_text_2 {Γ : Gm} {ts : TS} {d : Nat} (o : Ok Γ "LazyForge$Writer" cX2_text 3 (Option.none : Option Jvm.ClassFile.FieldType) (d + 4)) {A : Type} {K : A → CH → Prop} (k_25 : Mo CH A) (hk_25 : Sx Γ (fun h => (h, ts)) K 25 [] [] (k_25)) (l0 : Int) (l1 : Int) (l2 : Int) (hl2 : R32 l2) : Sx Γ (fun h => (h, ts)) K 2 [(0, vA (mg Γ) l0), (1, vA (mg Γ) l1), (2, vI l2)] [] (c_X2_text_2 k_25 l0 l1 l2) :=
  s_loop okc_X2_text_2 (lvc_X2_text_2 Γ) (fun x hx => sc_X2_text_2b o k_25 hk_25 x.1 x.2.1 x.2.2 hx) (x := (l0, l1, l2)) hl2
noncomputable def c_X2_text (l0 : Int) (l1 : Int) : Mo CH Int :=
  c_X2_text_2
    (pr 0) l0 l1 0
theorem sc_X2_text (g : gC) (d : Nat) (ts : TS) (l0 : Int) (l1 : Int) : SF g yX2_text (Cond.code yX2_text cX2_text 3 (Option.none : Option Jvm.ClassFile.FieldType)) (Option.none : Option Jvm.ClassFile.FieldType) (d + 4) [vA g l0, vA g l1] (fun h => (h, ts)) (c_X2_text l0 l1) := by
  refine SF.of (lv := [(0, vA g l0), (1, vA g l1)]) (by decide) (wt_A (wt_A wt_0)) rfl (by simp only [la_A, la_I, la_J, la_0]) (fun Γ hg hnm o => ?_)
  subst hg
  have o : Ok Γ "LazyForge$Writer" cX2_text 3 (Option.none : Option Jvm.ClassFile.FieldType) (d + 4) := o
  unfold c_X2_text
  refine s_iconst o dX2_text_0 ?_
  refine r_istore_n o dX2_text_1 rfl rfl ⟨(Nat.ne_of_beq_eq_false rfl), (fun _ => (vA_cat (mg Γ) l0)), ⟨(Nat.ne_of_beq_eq_false rfl), (fun _ => (vA_cat (mg Γ) l1)), trivial⟩⟩ ?_
  refine r_to [(0, vA (mg Γ) l0), (1, vA (mg Γ) l1), (2, vI 0)] [1, 2, 0] rfl ?_
  refine sc_X2_text_2 o _ ?_ l0 l1 0 (r32 rfl)
  · exact s_vret o rfl dX2_text_25 (fun _ hh => hh)
theorem dX26_write_0 : decode cX26_write 0 = .ok (.aload_n 1, 1) := by decide +kernel
theorem dX26_write_1 : decode cX26_write 1 = .ok (.ldc 19, 2) := by decide +kernel
theorem dX26_write_3 : decode cX26_write 3 = .ok (.invokevirtual 21, 3) := by decide +kernel
theorem dX26_write_6 : decode cX26_write 6 = .ok (.return_, 1) := by decide +kernel
theorem mw_X26_write : MW yX26_write (Cond.code yX26_write cX26_write 2 (Option.none : Option Jvm.ClassFile.FieldType)) cX26_write 2 (Option.none : Option Jvm.ClassFile.FieldType) 1 := ⟨rfl, ⟨(lw_all_tbl q1989), rfl, (lw_all_tbl q206)⟩, rfl, ⟨by decide, by decide⟩, by decide +kernel⟩
noncomputable def c_X26_write (l0 : Int) (l1 : Int) : Mo CH Int :=
  bnd (isk 102 l1) fun _ =>
  bnd (c_X2_text l1 (-21)) fun _ =>
  pr 0
theorem sc_X26_write (g : gC) (d : Nat) (ts : TS) (l0 : Int) (l1 : Int) : SF g yX26_write (Cond.code yX26_write cX26_write 2 (Option.none : Option Jvm.ClassFile.FieldType)) (Option.none : Option Jvm.ClassFile.FieldType) (d + 5) [vA g l0, vA g l1] (fun h => (h, ts)) (c_X26_write l0 l1) := by
  refine SF.of (lv := [(0, vA g l0), (1, vA g l1)]) (by decide) (wt_A (wt_A wt_0)) rfl (by simp only [la_A, la_I, la_J, la_0]) (fun Γ hg hnm o => ?_)
  subst hg
  have o : Ok Γ "LazyForge$Fail" cX26_write 2 (Option.none : Option Jvm.ClassFile.FieldType) (d + 5) := o
  unfold c_X26_write
  refine s_aload_n o dX26_write_0 rfl 1 rfl ?_
  refine s_ldcS (tx := "fail") (k := 21) o (by decide +kernel) rfl (by decide) dX26_write_1 ?_
  refine s_cvC (d := d + 4) (As := [vA (mg Γ) (-21)]) (st := []) (c := 2) o (sc_X2_text (mg Γ) d ts l1 (-21)) mw_X2_text rfl (Or.inl (lw_all_tbl q1991)) rfl (lw_all_tbl q1935) (lw_all_tbl q1934) wt_0 rfl dX26_write_3 rfl (rs := fun _ => []) (fun _ => rfl) (fun _ _ => ?_)
  exact s_vret o rfl dX26_write_6 (fun _ hh => hh)
noncomputable def v_X26_mayWait (l0 : Int) (l1 : Int) (l2 : Int) : Mo CH Int := dsp l0 [([126], c_X4_mayWait l0 l1 l2)]
theorem sv_X26_mayWait (g : gC) (d : Nat) (ts : TS) (l0 : Int) (l1 : Int) (l2 : Int) : VR g ts ⟨"LazyForge$Fail", "mayWait", "(LLazyForge$Program;LLazyForge$Function;)V"⟩ none 2 (d + 201) l0 [vA g l1, vA g l2] (v_X26_mayWait l0 l1 l2) := (VR.cons (x0 := ⟨"LazyForge$Fail", "mayWait", "(LLazyForge$Program;LLazyForge$Function;)V"⟩) ⟨⟨26, _, rfl, rfl, (lw_all_tbl q1761)⟩, trivial⟩ (lw_all_tbl q1762) mw_X4_mayWait (sc_X4_mayWait g (d + 0) ts l0 l1 l2) VR.nil)
theorem dX26_prepare_0 : decode cX26_prepare 0 = .ok (.aload_n 0, 1) := by decide +kernel
theorem dX26_prepare_1 : decode cX26_prepare 1 = .ok (.aload_n 1, 1) := by decide +kernel
theorem dX26_prepare_2 : decode cX26_prepare 2 = .ok (.aload_n 2, 1) := by decide +kernel
theorem dX26_prepare_3 : decode cX26_prepare 3 = .ok (.invokevirtual 27, 3) := by decide +kernel
theorem dX26_prepare_6 : decode cX26_prepare 6 = .ok (.return_, 1) := by decide +kernel
theorem mw_X26_prepare : MW yX26_prepare (Cond.code yX26_prepare cX26_prepare 3 (Option.none : Option Jvm.ClassFile.FieldType)) cX26_prepare 3 (Option.none : Option Jvm.ClassFile.FieldType) 2 := ⟨rfl, ⟨(lw_all_tbl q1757), rfl, (lw_all_tbl q206)⟩, rfl, ⟨by decide, by decide⟩, by decide +kernel⟩
noncomputable def c_X26_prepare (l0 : Int) (l1 : Int) (l2 : Int) : Mo CH Int :=
  bnd (v_X26_mayWait l0 l1 l2) fun _ =>
  pr 0
theorem sc_X26_prepare (g : gC) (d : Nat) (ts : TS) (l0 : Int) (l1 : Int) (l2 : Int) : SF g yX26_prepare (Cond.code yX26_prepare cX26_prepare 3 (Option.none : Option Jvm.ClassFile.FieldType)) (Option.none : Option Jvm.ClassFile.FieldType) (d + 202) [vA g l0, vA g l1, vA g l2] (fun h => (h, ts)) (c_X26_prepare l0 l1 l2) := by
  refine SF.of (lv := [(0, vA g l0), (1, vA g l1), (2, vA g l2)]) (by decide) (wt_A (wt_A (wt_A wt_0))) rfl (by simp only [la_A, la_I, la_J, la_0]) (fun Γ hg hnm o => ?_)
  subst hg
  have o : Ok Γ "LazyForge$Fail" cX26_prepare 3 (Option.none : Option Jvm.ClassFile.FieldType) (d + 202) := o
  unfold c_X26_prepare
  refine s_aload_n o dX26_prepare_0 rfl 0 rfl ?_
  refine s_aload_n o dX26_prepare_1 rfl 1 rfl ?_
  refine s_aload_n o dX26_prepare_2 rfl 2 rfl ?_
  refine s_cu (d := d + 201) (As := [vA (mg Γ) l1, vA (mg Γ) l2]) (st := []) (owner := "LazyForge$Part") o (sv_X26_mayWait (mg Γ) d ts l0 l1 l2) rfl (lw_all_tbl q1758) (lw_all_tbl q1759) (Or.inl q1760) ⟨by decide, by decide⟩ (by decide +kernel) wt_0 rfl dX26_prepare_3 rfl (rs := fun _ => []) (fun _ => rfl) (fun _ _ => ?_)
  exact s_vret o rfl dX26_prepare_6 (fun _ hh => hh)
theorem dX26_init_0 : decode cX26_init 0 = .ok (.aload_n 0, 1) := by decide +kernel
theorem dX26_init_1 : decode cX26_init 1 = .ok (.invokespecial 3, 3) := by decide +kernel
theorem dX26_init_4 : decode cX26_init 4 = .ok (.return_, 1) := by decide +kernel
theorem mw_X26_init : MW yX26_init (Cond.code yX26_init cX26_init 1 (Option.none : Option Jvm.ClassFile.FieldType)) cX26_init 1 (Option.none : Option Jvm.ClassFile.FieldType) 0 := ⟨rfl, ⟨(lw_all_tbl q1596), rfl, (lw_all_tbl q206)⟩, rfl, ⟨by decide, by decide⟩, by decide +kernel⟩
noncomputable def c_X26_init (l0 : Int) : Mo CH Int :=
  bnd (c_X4_init l0) fun _ =>
  pr 0
theorem sc_X26_init (g : gC) (d : Nat) (ts : TS) (l0 : Int) (hl0 : 0 < l0) : SF g yX26_init (Cond.code yX26_init cX26_init 1 (Option.none : Option Jvm.ClassFile.FieldType)) (Option.none : Option Jvm.ClassFile.FieldType) (d + 2) [vA g l0] (fun h => (h, ts)) (c_X26_init l0) := by
  refine SF.of (lv := [(0, vA g l0)]) (by decide) (wt_A wt_0) rfl (by simp only [la_A, la_I, la_J, la_0]) (fun Γ hg hnm o => ?_)
  subst hg
  have o : Ok Γ "LazyForge$Fail" cX26_init 1 (Option.none : Option Jvm.ClassFile.FieldType) (d + 2) := o
  have hnm : (xMe (mx Γ)).name = "<init>" := hnm
  unfold c_X26_init
  refine s_aload_n o dX26_init_0 rfl 0 rfl ?_
  refine s_ci (d := d + 1) (As := []) (st := []) o (sc_X4_init (mg Γ) d ts l0 hl0) mw_X4_init rfl (Or.inr ⟨_, q1597⟩) (lw_all_tbl q252) rfl hl0 wt_0 rfl dX26_init_1 rfl (fun _ => ?_)
  exact s_vret o rfl dX26_init_4 (fun _ hh => hh)
theorem dX2_word_0 : decode cX2_word 0 = .ok (.bipush 56, 2) := by decide +kernel
theorem dX2_word_2 : decode cX2_word 2 = .ok (.istore_n 3, 1) := by decide +kernel
theorem dX2_word_3 : decode cX2_word 3 = .ok (.iload_n 3, 1) := by decide +kernel
theorem dX2_word_4 : decode cX2_word 4 = .ok (.ifCond .lt 34, 3) := by decide +kernel
theorem dX2_word_7 : decode cX2_word 7 = .ok (.lload_n 1, 1) := by decide +kernel
theorem dX2_word_8 : decode cX2_word 8 = .ok (.iload_n 3, 1) := by decide +kernel
theorem dX2_word_9 : decode cX2_word 9 = .ok (.lshr, 1) := by decide +kernel
theorem dX2_word_10 : decode cX2_word 10 = .ok (.ldc2_w 33, 3) := by decide +kernel
theorem dX2_word_13 : decode cX2_word 13 = .ok (.land, 1) := by decide +kernel
theorem dX2_word_14 : decode cX2_word 14 = .ok (.lconst 0, 1) := by decide +kernel
theorem dX2_word_15 : decode cX2_word 15 = .ok (.lcmp, 1) := by decide +kernel
theorem dX2_word_16 : decode cX2_word 16 = .ok (.ifCond .eq 16, 3) := by decide +kernel
theorem dX2_word_19 : decode cX2_word 19 = .ok (.aload_n 0, 1) := by decide +kernel
theorem dX2_word_20 : decode cX2_word 20 = .ok (.lload_n 1, 1) := by decide +kernel
theorem dX2_word_21 : decode cX2_word 21 = .ok (.iload_n 3, 1) := by decide +kernel
theorem dX2_word_22 : decode cX2_word 22 = .ok (.lshr, 1) := by decide +kernel
theorem dX2_word_23 : decode cX2_word 23 = .ok (.ldc2_w 33, 3) := by decide +kernel
theorem dX2_word_26 : decode cX2_word 26 = .ok (.land, 1) := by decide +kernel
theorem dX2_word_27 : decode cX2_word 27 = .ok (.l2i, 1) := by decide +kernel
theorem dX2_word_28 : decode cX2_word 28 = .ok (.i2c, 1) := by decide +kernel
theorem dX2_word_29 : decode cX2_word 29 = .ok (.invokevirtual 29, 3) := by decide +kernel
theorem dX2_word_32 : decode cX2_word 32 = .ok (.iinc 3 (-8), 3) := by decide +kernel
theorem dX2_word_35 : decode cX2_word 35 = .ok (.goto (-32), 3) := by decide +kernel
theorem dX2_word_38 : decode cX2_word 38 = .ok (.return_, 1) := by decide +kernel
theorem mw_X2_word : MW yX2_word (Cond.code yX2_word cX2_word 4 (Option.none : Option Jvm.ClassFile.FieldType)) cX2_word 4 (Option.none : Option Jvm.ClassFile.FieldType) 1 := ⟨rfl, ⟨(lw_all_tbl q1951), rfl, (lw_all_tbl q164)⟩, rfl, ⟨by decide, by decide⟩, by decide +kernel⟩
abbrev okc_X2_word_3 (x : Int × Int × Int) : Prop := R64 x.2.1 ∧ R32 x.2.2
abbrev lvc_X2_word_3 (Γ : Gm) (x : Int × Int × Int) : List (Nat × Value) := [(0, vA (mg Γ) x.1), (1, vJ x.2.1), (3, vI x.2.2)]
noncomputable def c_X2_word_32 {A : Type} (k_38 : Mo CH A) (l0 : Int) (l1 : Int) (l3 : Int) : Mo CH ((Int × Int × Int) ⊕ A) :=
  pr (.inl (l0, l1, (w32 (l3 + (-8)))))
theorem sc_X2_word_32 {Γ : Gm} {ts : TS} {d : Nat} (o : Ok Γ "LazyForge$Writer" cX2_word 4 (Option.none : Option Jvm.ClassFile.FieldType) (d + 1)) {A : Type} {K : A → CH → Prop}  (k_38 : Mo CH A) (hk_38 : Sx Γ (fun h => (h, ts)) K 38 [] [] (k_38)) (l0 : Int) (l1 : Int) (l3 : Int) (hl1 : R64 l1) (hl3 : R32 l3) : Sx Γ (fun h => (h, ts)) (KL Γ (fun h => (h, ts)) okc_X2_word_3 K 3 (lvc_X2_word_3 Γ) []) 32 [(0, vA (mg Γ) l0), (1, vJ l1), (3, vI l3)] [] (c_X2_word_32 k_38 l0 l1 l3) := by
  unfold c_X2_word_32
  refine r_iinc (j := 2) o dX2_word_32 rfl rfl [(0, vA (mg Γ) l0), (1, vJ l1)] [0, 1] rfl ⟨(Nat.ne_of_beq_eq_false rfl), (fun _ => (vA_cat (mg Γ) l0)), ⟨(Nat.ne_of_beq_eq_false rfl), (fun e => absurd e (Nat.ne_of_beq_eq_false rfl)), trivial⟩⟩ ?_
  refine s_goto (tgt := 3) o dX2_word_35 (by decide) ?_
  refine r_to [(0, vA (mg Γ) l0), (1, vJ l1), (3, vI (w32 (l3 + (-8))))] [1, 2, 0] rfl ?_
  exact s_back (⟨hl1, (w32_R _)⟩) rfl
noncomputable def c_X2_word_3b {A : Type} (k_38 : Mo CH A) (l0 : Int) (l1 : Int) (l3 : Int) : Mo CH ((Int × Int × Int) ⊕ A) :=
  if l3 < 0 then
    lo k_38
  else
    if (land (lshr l1 l3) 255) = 0 then
      c_X2_word_32 k_38 l0 l1 l3
    else
      bnd (isk 102 l0) fun _ =>
      bnd (c_X2_sign l0 (i2c (l2i (land (lshr l1 l3) 255)))) fun _ =>
      c_X2_word_32 k_38 l0 l1 l3
theorem sc_X2_word_3b {Γ : Gm} {ts : TS} {d : Nat} (o : Ok Γ "LazyForge$Writer" cX2_word 4 (Option.none : Option Jvm.ClassFile.FieldType) (d + 1)) {A : Type} {K : A → CH → Prop} (k_38 : Mo CH A) (hk_38 : Sx Γ (fun h => (h, ts)) K 38 [] [] (k_38)) (l0 : Int) (l1 : Int) (l3 : Int) (hl1 : R64 l1) (hl3 : R32 l3) : Sx Γ (fun h => (h, ts)) (KL Γ (fun h => (h, ts)) okc_X2_word_3 K 3 (lvc_X2_word_3 Γ) []) 3 [(0, vA (mg Γ) l0), (1, vJ l1), (3, vI l3)] [] (c_X2_word_3b k_38 l0 l1 l3) := by
  unfold c_X2_word_3b
  refine s_iload_n o dX2_word_3 rfl 2 rfl ?_
  refine s_if_lt (tgt := 38) o dX2_word_4 (by decide) hl3 ?_ ?_
  · refine r_to [] [] rfl ?_
    exact s_lo hk_38
  · refine s_lload_n o dX2_word_7 rfl 1 rfl ?_
    refine s_iload_n o dX2_word_8 rfl 2 rfl ?_
    refine s_lshr o dX2_word_9 ?_
    refine s_ldc2 (n := 255) o dX2_word_10 (lw_all_tbl q1952) rfl ?_
    refine s_land o dX2_word_13 ?_
    refine s_lconst (x := 0) o dX2_word_14 rfl ?_
    refine s_lcmp_eq (tgt := 32) o dX2_word_15 dX2_word_16 (by decide) (land_R _ _) (r64 rfl) ?_ ?_
    · exact sc_X2_word_32 o k_38 hk_38 l0 l1 l3 hl1 hl3
    · refine s_aload_n o dX2_word_19 rfl 0 rfl ?_
      refine s_lload_n o dX2_word_20 rfl 1 rfl ?_
      refine s_iload_n o dX2_word_21 rfl 2 rfl ?_
      refine s_lshr o dX2_word_22 ?_
      refine s_ldc2 (n := 255) o dX2_word_23 (lw_all_tbl q1952) rfl ?_
      refine s_land o dX2_word_26 ?_
      refine s_l2i o dX2_word_27 ?_
      refine s_i2c o dX2_word_28 ?_
      refine s_cvC (d := d + 0) (As := [vI (i2c (l2i (land (lshr l1 l3) 255)))]) (st := []) (c := 2) o (sc_X2_sign (mg Γ) d ts l0 (i2c (l2i (land (lshr l1 l3) 255))) (i2c_R _)) mw_X2_sign rfl (Or.inl (lw_all_tbl q1939)) rfl (lw_all_tbl q1941) (lw_all_tbl q1940) wt_0 rfl dX2_word_29 rfl (rs := fun _ => []) (fun _ => rfl) (fun _ _ => ?_)
      exact sc_X2_word_32 o k_38 hk_38 l0 l1 l3 hl1 hl3
noncomputable def c_X2_word_3 {A : Type} (k_38 : Mo CH A) (l0 : Int) (l1 : Int) (l3 : Int) : Mo CH A := Loop (fun x => c_X2_word_3b k_38 x.1 x.2.1 x.2.2) (l0, l1, l3)
theorem sc_X2_word_3 {Γ : Gm} {ts : TS} {d : Nat} (o : Ok Γ "LazyForge$Writer" cX2_word 4 (Option.none : Option Jvm.ClassFile.FieldType) (d + 1)) {A : Type} {K : A → CH → Prop} (k_38 : Mo CH A) (hk_38 : Sx Γ (fun h => (h, ts)) K 38 [] [] (k_38)) (l0 : Int) (l1 : Int) (l3 : Int) (hl1 : R64 l1) (hl3 : R32 l3) : Sx Γ (fun h => (h, ts)) K 3 [(0, vA (mg Γ) l0), (1, vJ l1), (3, vI l3)] [] (c_X2_word_3 k_38 l0 l1 l3) :=
  s_loop okc_X2_word_3 (lvc_X2_word_3 Γ) (fun x hx => sc_X2_word_3b o k_38 hk_38 x.1 x.2.1 x.2.2 hx.1 hx.2) (x := (l0, l1, l3)) ⟨hl1, hl3⟩
noncomputable def c_X2_word (l0 : Int) (l1 : Int) : Mo CH Int :=
  c_X2_word_3
    (pr 0) l0 l1 56
theorem sc_X2_word (g : gC) (d : Nat) (ts : TS) (l0 : Int) (l1 : Int) (hl1 : R64 l1) : SF g yX2_word (Cond.code yX2_word cX2_word 4 (Option.none : Option Jvm.ClassFile.FieldType)) (Option.none : Option Jvm.ClassFile.FieldType) (d + 1) [vA g l0, vJ l1] (fun h => (h, ts)) (c_X2_word l0 l1) := by
  refine SF.of (lv := [(0, vA g l0), (1, vJ l1)]) (by decide) (wt_A (wt_J wt_0)) rfl (by simp only [la_A, la_I, la_J, la_0]) (fun Γ hg hnm o => ?_)
  subst hg
  have o : Ok Γ "LazyForge$Writer" cX2_word 4 (Option.none : Option Jvm.ClassFile.FieldType) (d + 1) := o
  unfold c_X2_word
  refine s_bipush o dX2_word_0 rfl ?_
  refine r_istore_n o dX2_word_2 rfl rfl ⟨(Nat.ne_of_beq_eq_false rfl), (fun _ => (vA_cat (mg Γ) l0)), ⟨(Nat.ne_of_beq_eq_false rfl), (fun e => absurd e (Nat.ne_of_beq_eq_false rfl)), trivial⟩⟩ ?_
  refine r_to [(0, vA (mg Γ) l0), (1, vJ l1), (3, vI 56)] [1, 2, 0] rfl ?_
  refine sc_X2_word_3 o _ ?_ l0 l1 56 hl1 (r32 rfl)
  · exact s_vret o rfl dX2_word_38 (fun _ hh => hh)
theorem dX2_constructor_0 : decode cX2_constructor 0 = .ok (.aload_n 0, 1) := by decide +kernel
theorem dX2_constructor_1 : decode cX2_constructor 1 = .ok (.aload_n 0, 1) := by decide +kernel
theorem dX2_constructor_2 : decode cX2_constructor 2 = .ok (.getfield 35, 3) := by decide +kernel
theorem dX2_constructor_5 : decode cX2_constructor 5 = .ok (.getfield 39, 3) := by decide +kernel
theorem dX2_constructor_8 : decode cX2_constructor 8 = .ok (.iload_n 1, 1) := by decide +kernel
theorem dX2_constructor_9 : decode cX2_constructor 9 = .ok (.laload, 1) := by decide +kernel
theorem dX2_constructor_10 : decode cX2_constructor 10 = .ok (.invokevirtual 45, 3) := by decide +kernel
theorem dX2_constructor_13 : decode cX2_constructor 13 = .ok (.return_, 1) := by decide +kernel
theorem mw_X2_constructor : MW yX2_constructor (Cond.code yX2_constructor cX2_constructor 2 (Option.none : Option Jvm.ClassFile.FieldType)) cX2_constructor 2 (Option.none : Option Jvm.ClassFile.FieldType) 1 := ⟨rfl, ⟨(lw_all_tbl q1947), rfl, (lw_all_tbl q164)⟩, rfl, ⟨by decide, by decide⟩, by decide +kernel⟩
noncomputable def c_X2_constructor (l0 : Int) (l1 : Int) : Mo CH Int :=
  bnd (gf [102] 2 l0) fun v1 =>
  bnd (gf [115] 5 v1) fun v2 =>
  bnd (ald 1 v2 l1) fun v3 =>
  bnd (isk 102 l0) fun _ =>
  bnd (c_X2_word l0 v3) fun _ =>
  pr 0
theorem sc_X2_constructor (g : gC) (d : Nat) (ts : TS) (l0 : Int) (l1 : Int) (hl1 : R32 l1) : SF g yX2_constructor (Cond.code yX2_constructor cX2_constructor 2 (Option.none : Option Jvm.ClassFile.FieldType)) (Option.none : Option Jvm.ClassFile.FieldType) (d + 2) [vA g l0, vI l1] (fun h => (h, ts)) (c_X2_constructor l0 l1) := by
  refine SF.of (lv := [(0, vA g l0), (1, vI l1)]) (by decide) (wt_A (wt_I wt_0)) rfl (by simp only [la_A, la_I, la_J, la_0]) (fun Γ hg hnm o => ?_)
  subst hg
  have o : Ok Γ "LazyForge$Writer" cX2_constructor 2 (Option.none : Option Jvm.ClassFile.FieldType) (d + 2) := o
  unfold c_X2_constructor
  refine s_aload_n o dX2_constructor_0 rfl 0 rfl ?_
  refine s_aload_n o dX2_constructor_1 rfl 0 rfl ?_
  refine r_getf (vA (mg Γ)) rfl o cf_X2_program (Or.inl (lw_all_tbl q228)) dX2_constructor_2 (fun v1 hv1 => ?_)
  refine r_getf (vA (mg Γ)) rfl o cf_X15_constructors (Or.inr (Or.inl ⟨_, q1075⟩)) dX2_constructor_5 (fun v2 hv2 => ?_)
  refine s_iload_n o dX2_constructor_8 rfl 1 rfl ?_
  refine r_lald o hl1 dX2_constructor_9 (fun v3 hv3 => ?_)
  refine s_cvC (d := d + 1) (As := [vJ v3]) (st := []) (c := 2) o (sc_X2_word (mg Γ) d ts l0 v3 hv3) mw_X2_word rfl (Or.inl (lw_all_tbl q1948)) rfl (lw_all_tbl q1950) (lw_all_tbl q1949) wt_0 rfl dX2_constructor_10 rfl (rs := fun _ => []) (fun _ => rfl) (fun _ _ => ?_)
  exact s_vret o rfl dX2_constructor_13 (fun _ hh => hh)
theorem dX2_number_0 : decode cX2_number 0 = .ok (.iconst 1, 1) := by decide +kernel
theorem dX2_number_1 : decode cX2_number 1 = .ok (.istore_n 2, 1) := by decide +kernel
theorem dX2_number_2 : decode cX2_number 2 = .ok (.iload_n 1, 1) := by decide +kernel
theorem dX2_number_3 : decode cX2_number 3 = .ok (.iload_n 2, 1) := by decide +kernel
theorem dX2_number_4 : decode cX2_number 4 = .ok (.idiv, 1) := by decide +kernel
theorem dX2_number_5 : decode cX2_number 5 = .ok (.bipush 9, 2) := by decide +kernel
theorem dX2_number_7 : decode cX2_number 7 = .ok (.if_icmp .le 11, 3) := by decide +kernel
theorem dX2_number_10 : decode cX2_number 10 = .ok (.iload_n 2, 1) := by decide +kernel
theorem dX2_number_11 : decode cX2_number 11 = .ok (.bipush 10, 2) := by decide +kernel
theorem dX2_number_13 : decode cX2_number 13 = .ok (.imul, 1) := by decide +kernel
theorem dX2_number_14 : decode cX2_number 14 = .ok (.istore_n 2, 1) := by decide +kernel
theorem dX2_number_15 : decode cX2_number 15 = .ok (.goto (-13), 3) := by decide +kernel
theorem dX2_number_18 : decode cX2_number 18 = .ok (.iload_n 2, 1) := by decide +kernel
theorem dX2_number_19 : decode cX2_number 19 = .ok (.istore_n 3, 1) := by decide +kernel
theorem dX2_number_20 : decode cX2_number 20 = .ok (.iload_n 3, 1) := by decide +kernel
theorem dX2_number_21 : decode cX2_number 21 = .ok (.ifCond .le 25, 3) := by decide +kernel
theorem dX2_number_24 : decode cX2_number 24 = .ok (.aload_n 0, 1) := by decide +kernel
theorem dX2_number_25 : decode cX2_number 25 = .ok (.bipush 48, 2) := by decide +kernel
theorem dX2_number_27 : decode cX2_number 27 = .ok (.iload_n 1, 1) := by decide +kernel
theorem dX2_number_28 : decode cX2_number 28 = .ok (.iload_n 3, 1) := by decide +kernel
theorem dX2_number_29 : decode cX2_number 29 = .ok (.idiv, 1) := by decide +kernel
theorem dX2_number_30 : decode cX2_number 30 = .ok (.bipush 10, 2) := by decide +kernel
theorem dX2_number_32 : decode cX2_number 32 = .ok (.irem, 1) := by decide +kernel
theorem dX2_number_33 : decode cX2_number 33 = .ok (.iadd, 1) := by decide +kernel
theorem dX2_number_34 : decode cX2_number 34 = .ok (.i2c, 1) := by decide +kernel
theorem dX2_number_35 : decode cX2_number 35 = .ok (.invokevirtual 29, 3) := by decide +kernel
theorem dX2_number_38 : decode cX2_number 38 = .ok (.iload_n 3, 1) := by decide +kernel
theorem dX2_number_39 : decode cX2_number 39 = .ok (.bipush 10, 2) := by decide +kernel
theorem dX2_number_41 : decode cX2_number 41 = .ok (.idiv, 1) := by decide +kernel
theorem dX2_number_42 : decode cX2_number 42 = .ok (.istore_n 3, 1) := by decide +kernel
theorem dX2_number_43 : decode cX2_number 43 = .ok (.goto (-23), 3) := by decide +kernel
theorem dX2_number_46 : decode cX2_number 46 = .ok (.return_, 1) := by decide +kernel
theorem mw_X2_number : MW yX2_number (Cond.code yX2_number cX2_number 4 (Option.none : Option Jvm.ClassFile.FieldType)) cX2_number 4 (Option.none : Option Jvm.ClassFile.FieldType) 1 := ⟨rfl, ⟨(lw_all_tbl q1956), rfl, (lw_all_tbl q164)⟩, rfl, ⟨by decide, by decide⟩, by decide +kernel⟩
abbrev okc_X2_number_2 (x : Int × Int × Int) : Prop := R32 x.2.1 ∧ R32 x.2.2
abbrev lvc_X2_number_2 (Γ : Gm) (x : Int × Int × Int) : List (Nat × Value) := [(0, vA (mg Γ) x.1), (1, vI x.2.1), (2, vI x.2.2)]
noncomputable def c_X2_number_2b {A : Type} (k_18 : Int → Int → Int → Mo CH A) (l0 : Int) (l1 : Int) (l2 : Int) : Mo CH ((Int × Int × Int) ⊕ A) :=
  nz l2
  (if (idv l1 l2) ≤ 9 then
    lo (k_18 l0 l1 l2)
  else
    pr (.inl (l0, l1, (w32 (l2 * 10)))))
theorem sc_X2_number_2b {Γ : Gm} {ts : TS} {d : Nat} (o : Ok Γ "LazyForge$Writer" cX2_number 4 (Option.none : Option Jvm.ClassFile.FieldType) (d + 1)) {A : Type} {K : A → CH → Prop} (k_18 : Int → Int → Int → Mo CH A) (hk_18 : ∀ (l0 : Int) (l1 : Int) (l2 : Int), R32 l1 → R32 l2 → Sx Γ (fun h => (h, ts)) K 18 [(0, vA (mg Γ) l0), (1, vI l1), (2, vI l2)] [] (k_18 l0 l1 l2)) (l0 : Int) (l1 : Int) (l2 : Int) (hl1 : R32 l1) (hl2 : R32 l2) : Sx Γ (fun h => (h, ts)) (KL Γ (fun h => (h, ts)) okc_X2_number_2 K 2 (lvc_X2_number_2 Γ) []) 2 [(0, vA (mg Γ) l0), (1, vI l1), (2, vI l2)] [] (c_X2_number_2b k_18 l0 l1 l2) := by
  unfold c_X2_number_2b
  refine s_iload_n o dX2_number_2 rfl 1 rfl ?_
  refine s_iload_n o dX2_number_3 rfl 2 rfl ?_
  refine s_nz (fun z0 => ?_)
  refine s_idiv o dX2_number_4 hl2 z0 ?_
  refine s_bipush o dX2_number_5 rfl ?_
  refine s_icmp_le (tgt := 18) o dX2_number_7 (by decide) (idv_R _ _) (r32 rfl) ?_ ?_
  · exact s_lo (hk_18 l0 l1 l2 hl1 hl2)
  · refine s_iload_n o dX2_number_10 rfl 2 rfl ?_
    refine s_bipush o dX2_number_11 rfl ?_
    refine s_imul o dX2_number_13 ?_
    refine r_istore_nP o dX2_number_14 rfl rfl [(0, vA (mg Γ) l0), (1, vI l1)] [0, 1] rfl ⟨(Nat.ne_of_beq_eq_false rfl), (fun _ => (vA_cat (mg Γ) l0)), ⟨(Nat.ne_of_beq_eq_false rfl), (fun _ => rfl), trivial⟩⟩ ?_
    refine s_goto (tgt := 2) o dX2_number_15 (by decide) ?_
    refine r_to [(0, vA (mg Γ) l0), (1, vI l1), (2, vI (w32 (l2 * 10)))] [1, 2, 0] rfl ?_
    exact s_back (⟨hl1, (w32_R _)⟩) rfl
noncomputable def c_X2_number_2 {A : Type} (k_18 : Int → Int → Int → Mo CH A) (l0 : Int) (l1 : Int) (l2 : Int) : Mo CH A := Loop (fun x => c_X2_number_2b k_18 x.1 x.2.1 x.2.2) (l0, l1, l2)
theorem sc_X2_number_2 {Γ : Gm} {ts : TS} {d : Nat} (o : Ok Γ "LazyForge$Writer" cX2_number 4 (Option.none : Option Jvm.ClassFile.FieldType) (d + 1)) {A : Type} {K : A → CH → Prop} (k_18 : Int → Int → Int → Mo CH A) (hk_18 : ∀ (l0 : Int) (l1 : Int) (l2 : Int), R32 l1 → R32 l2 → Sx Γ (fun h => (h, ts)) K 18 [(0, vA (mg Γ) l0), (1, vI l1), (2, vI l2)] [] (k_18 l0 l1 l2)) (l0 : Int) (l1 : Int) (l2 : Int) (hl1 : R32 l1) (hl2 : R32 l2) : Sx Γ (fun h => (h, ts)) K 2 [(0, vA (mg Γ) l0), (1, vI l1), (2, vI l2)] [] (c_X2_number_2 k_18 l0 l1 l2) :=
  s_loop okc_X2_number_2 (lvc_X2_number_2 Γ) (fun x hx => sc_X2_number_2b o k_18 hk_18 x.1 x.2.1 x.2.2 hx.1 hx.2) (x := (l0, l1, l2)) ⟨hl1, hl2⟩
abbrev okc_X2_number_20 (x : Int × Int × Int) : Prop := R32 x.2.1 ∧ R32 x.2.2
abbrev lvc_X2_number_20 (Γ : Gm) (x : Int × Int × Int) : List (Nat × Value) := [(0, vA (mg Γ) x.1), (1, vI x.2.1), (3, vI x.2.2)]
noncomputable def c_X2_number_20b {A : Type} (k_46 : Mo CH A) (l0 : Int) (l1 : Int) (l3 : Int) : Mo CH ((Int × Int × Int) ⊕ A) :=
  if l3 ≤ 0 then
    lo k_46
  else
    nz l3
    (bnd (isk 102 l0) fun _ =>
    bnd (c_X2_sign l0 (i2c (w32 (48 + (irm (idv l1 l3) 10))))) fun _ =>
    pr (.inl (l0, l1, (idv l3 10))))
theorem sc_X2_number_20b {Γ : Gm} {ts : TS} {d : Nat} (o : Ok Γ "LazyForge$Writer" cX2_number 4 (Option.none : Option Jvm.ClassFile.FieldType) (d + 1)) {A : Type} {K : A → CH → Prop} (k_46 : Mo CH A) (hk_46 : Sx Γ (fun h => (h, ts)) K 46 [] [] (k_46)) (l0 : Int) (l1 : Int) (l3 : Int) (hl1 : R32 l1) (hl3 : R32 l3) : Sx Γ (fun h => (h, ts)) (KL Γ (fun h => (h, ts)) okc_X2_number_20 K 20 (lvc_X2_number_20 Γ) []) 20 [(0, vA (mg Γ) l0), (1, vI l1), (3, vI l3)] [] (c_X2_number_20b k_46 l0 l1 l3) := by
  unfold c_X2_number_20b
  refine s_iload_n o dX2_number_20 rfl 2 rfl ?_
  refine s_if_le (tgt := 46) o dX2_number_21 (by decide) hl3 ?_ ?_
  · refine r_to [] [] rfl ?_
    exact s_lo hk_46
  · refine s_aload_n o dX2_number_24 rfl 0 rfl ?_
    refine s_bipush o dX2_number_25 rfl ?_
    refine s_iload_n o dX2_number_27 rfl 1 rfl ?_
    refine s_iload_n o dX2_number_28 rfl 2 rfl ?_
    refine s_nz (fun z0 => ?_)
    refine s_idiv o dX2_number_29 hl3 z0 ?_
    refine s_bipush o dX2_number_30 rfl ?_
    refine s_irem o dX2_number_32 (r32 rfl) (by decide) ?_
    refine s_iadd o dX2_number_33 ?_
    refine s_i2c o dX2_number_34 ?_
    refine s_cvC (d := d + 0) (As := [vI (i2c (w32 (48 + (irm (idv l1 l3) 10))))]) (st := []) (c := 2) o (sc_X2_sign (mg Γ) d ts l0 (i2c (w32 (48 + (irm (idv l1 l3) 10)))) (i2c_R _)) mw_X2_sign rfl (Or.inl (lw_all_tbl q1939)) rfl (lw_all_tbl q1941) (lw_all_tbl q1940) wt_0 rfl dX2_number_35 rfl (rs := fun _ => []) (fun _ => rfl) (fun _ _ => ?_)
    refine s_iload_n o dX2_number_38 rfl 2 rfl ?_
    refine s_bipush o dX2_number_39 rfl ?_
    refine s_idiv o dX2_number_41 (r32 rfl) (by decide) ?_
    refine r_istore_nP o dX2_number_42 rfl rfl [(0, vA (mg Γ) l0), (1, vI l1)] [0, 1] rfl ⟨(Nat.ne_of_beq_eq_false rfl), (fun _ => (vA_cat (mg Γ) l0)), ⟨(Nat.ne_of_beq_eq_false rfl), (fun _ => rfl), trivial⟩⟩ ?_
    refine s_goto (tgt := 20) o dX2_number_43 (by decide) ?_
    refine r_to [(0, vA (mg Γ) l0), (1, vI l1), (3, vI (idv l3 10))] [1, 2, 0] rfl ?_
    exact s_back (⟨hl1, (idv_R _ _)⟩) rfl
noncomputable def c_X2_number_20 {A : Type} (k_46 : Mo CH A) (l0 : Int) (l1 : Int) (l3 : Int) : Mo CH A := Loop (fun x => c_X2_number_20b k_46 x.1 x.2.1 x.2.2) (l0, l1, l3)
theorem sc_X2_number_20 {Γ : Gm} {ts : TS} {d : Nat} (o : Ok Γ "LazyForge$Writer" cX2_number 4 (Option.none : Option Jvm.ClassFile.FieldType) (d + 1)) {A : Type} {K : A → CH → Prop} (k_46 : Mo CH A) (hk_46 : Sx Γ (fun h => (h, ts)) K 46 [] [] (k_46)) (l0 : Int) (l1 : Int) (l3 : Int) (hl1 : R32 l1) (hl3 : R32 l3) : Sx Γ (fun h => (h, ts)) K 20 [(0, vA (mg Γ) l0), (1, vI l1), (3, vI l3)] [] (c_X2_number_20 k_46 l0 l1 l3) :=
  s_loop okc_X2_number_20 (lvc_X2_number_20 Γ) (fun x hx => sc_X2_number_20b o k_46 hk_46 x.1 x.2.1 x.2.2 hx.1 hx.2) (x := (l0, l1, l3)) ⟨hl1, hl3⟩
noncomputable def c_X2_number (l0 : Int) (l1 : Int) : Mo CH Int :=
  c_X2_number_2
    (fun v1 v2 v3 => c_X2_number_20
    (pr 0) v1 v2 v3) l0 l1 1
theorem sc_X2_number (g : gC) (d : Nat) (ts : TS) (l0 : Int) (l1 : Int) (hl1 : R32 l1) : SF g yX2_number (Cond.code yX2_number cX2_number 4 (Option.none : Option Jvm.ClassFile.FieldType)) (Option.none : Option Jvm.ClassFile.FieldType) (d + 1) [vA g l0, vI l1] (fun h => (h, ts)) (c_X2_number l0 l1) := by
  refine SF.of (lv := [(0, vA g l0), (1, vI l1)]) (by decide) (wt_A (wt_I wt_0)) rfl (by simp only [la_A, la_I, la_J, la_0]) (fun Γ hg hnm o => ?_)
  subst hg
  have o : Ok Γ "LazyForge$Writer" cX2_number 4 (Option.none : Option Jvm.ClassFile.FieldType) (d + 1) := o
  unfold c_X2_number
  refine s_iconst o dX2_number_0 ?_
  refine r_istore_n o dX2_number_1 rfl rfl ⟨(Nat.ne_of_beq_eq_false rfl), (fun _ => (vA_cat (mg Γ) l0)), ⟨(Nat.ne_of_beq_eq_false rfl), (fun _ => rfl), trivial⟩⟩ ?_
  refine r_to [(0, vA (mg Γ) l0), (1, vI l1), (2, vI 1)] [1, 2, 0] rfl ?_
  refine sc_X2_number_2 o _ ?_ l0 l1 1 hl1 (r32 rfl)
  · intro v1 v2 v3 hv2 hv3
    refine s_iload_n o dX2_number_18 rfl 2 rfl ?_
    refine r_istore_n o dX2_number_19 rfl rfl ⟨(Nat.ne_of_beq_eq_false rfl), (fun _ => (vA_cat (mg Γ) v1)), ⟨(Nat.ne_of_beq_eq_false rfl), (fun _ => rfl), ⟨(Nat.ne_of_beq_eq_false rfl), (fun _ => rfl), trivial⟩⟩⟩ ?_
    refine r_to [(0, vA (mg Γ) v1), (1, vI v2), (3, vI v3)] [1, 2, 0] rfl ?_
    refine sc_X2_number_20 o _ ?_ v1 v2 v3 hv2 hv3
    · exact s_vret o rfl dX2_number_46 (fun _ hh => hh)
theorem dX2_variable_0 : decode cX2_variable 0 = .ok (.aload_n 0, 1) := by decide +kernel
theorem dX2_variable_1 : decode cX2_variable 1 = .ok (.bipush 118, 2) := by decide +kernel
theorem dX2_variable_3 : decode cX2_variable 3 = .ok (.invokevirtual 29, 3) := by decide +kernel
theorem dX2_variable_6 : decode cX2_variable 6 = .ok (.aload_n 0, 1) := by decide +kernel
theorem dX2_variable_7 : decode cX2_variable 7 = .ok (.iload_n 1, 1) := by decide +kernel
theorem dX2_variable_8 : decode cX2_variable 8 = .ok (.invokevirtual 53, 3) := by decide +kernel
theorem dX2_variable_11 : decode cX2_variable 11 = .ok (.return_, 1) := by decide +kernel
theorem mw_X2_variable : MW yX2_variable (Cond.code yX2_variable cX2_variable 2 (Option.none : Option Jvm.ClassFile.FieldType)) cX2_variable 2 (Option.none : Option Jvm.ClassFile.FieldType) 1 := ⟨rfl, ⟨(lw_all_tbl q1970), rfl, (lw_all_tbl q164)⟩, rfl, ⟨by decide, by decide⟩, by decide +kernel⟩
noncomputable def c_X2_variable (l0 : Int) (l1 : Int) : Mo CH Int :=
  bnd (isk 102 l0) fun _ =>
  bnd (c_X2_sign l0 118) fun _ =>
  bnd (isk 102 l0) fun _ =>
  bnd (c_X2_number l0 l1) fun _ =>
  pr 0
theorem sc_X2_variable (g : gC) (d : Nat) (ts : TS) (l0 : Int) (l1 : Int) (hl1 : R32 l1) : SF g yX2_variable (Cond.code yX2_variable cX2_variable 2 (Option.none : Option Jvm.ClassFile.FieldType)) (Option.none : Option Jvm.ClassFile.FieldType) (d + 2) [vA g l0, vI l1] (fun h => (h, ts)) (c_X2_variable l0 l1) := by
  refine SF.of (lv := [(0, vA g l0), (1, vI l1)]) (by decide) (wt_A (wt_I wt_0)) rfl (by simp only [la_A, la_I, la_J, la_0]) (fun Γ hg hnm o => ?_)
  subst hg
  have o : Ok Γ "LazyForge$Writer" cX2_variable 2 (Option.none : Option Jvm.ClassFile.FieldType) (d + 2) := o
  unfold c_X2_variable
  refine s_aload_n o dX2_variable_0 rfl 0 rfl ?_
  refine s_bipush o dX2_variable_1 rfl ?_
  refine s_cvC (d := d + 1) (As := [vI 118]) (st := []) (c := 2) o (sc_X2_sign (mg Γ) (d + 1) ts l0 118 (rCl rfl)) mw_X2_sign rfl (Or.inl (lw_all_tbl q1939)) rfl (lw_all_tbl q1941) (lw_all_tbl q1940) wt_0 rfl dX2_variable_3 rfl (rs := fun _ => []) (fun _ => rfl) (fun _ _ => ?_)
  refine s_aload_n o dX2_variable_6 rfl 0 rfl ?_
  refine s_iload_n o dX2_variable_7 rfl 1 rfl ?_
  refine s_cvC (d := d + 1) (As := [vI l1]) (st := []) (c := 2) o (sc_X2_number (mg Γ) d ts l0 l1 hl1) mw_X2_number rfl (Or.inl (lw_all_tbl q1953)) rfl (lw_all_tbl q1955) (lw_all_tbl q1954) wt_0 rfl dX2_variable_8 rfl (rs := fun _ => []) (fun _ => rfl) (fun _ _ => ?_)
  exact s_vret o rfl dX2_variable_11 (fun _ hh => hh)
theorem dX2_function_0 : decode cX2_function 0 = .ok (.aload_n 1, 1) := by decide +kernel
theorem dX2_function_1 : decode cX2_function 1 = .ok (.getfield 60, 3) := by decide +kernel
theorem dX2_function_4 : decode cX2_function 4 = .ok (.aload_n 0, 1) := by decide +kernel
theorem dX2_function_5 : decode cX2_function 5 = .ok (.getfield 35, 3) := by decide +kernel
theorem dX2_function_8 : decode cX2_function 8 = .ok (.getfield 64, 3) := by decide +kernel
theorem dX2_function_11 : decode cX2_function 11 = .ok (.if_icmp .ne 10, 3) := by decide +kernel
theorem dX2_function_14 : decode cX2_function 14 = .ok (.aload_n 0, 1) := by decide +kernel
theorem dX2_function_15 : decode cX2_function 15 = .ok (.ldc 67, 2) := by decide +kernel
theorem dX2_function_17 : decode cX2_function 17 = .ok (.invokevirtual 68, 3) := by decide +kernel
theorem dX2_function_20 : decode cX2_function 20 = .ok (.return_, 1) := by decide +kernel
theorem dX2_function_21 : decode cX2_function 21 = .ok (.aload_n 0, 1) := by decide +kernel
theorem dX2_function_22 : decode cX2_function 22 = .ok (.bipush 102, 2) := by decide +kernel
theorem dX2_function_24 : decode cX2_function 24 = .ok (.invokevirtual 29, 3) := by decide +kernel
theorem dX2_function_27 : decode cX2_function 27 = .ok (.aload_n 0, 1) := by decide +kernel
theorem dX2_function_28 : decode cX2_function 28 = .ok (.aload_n 1, 1) := by decide +kernel
theorem dX2_function_29 : decode cX2_function 29 = .ok (.getfield 60, 3) := by decide +kernel
theorem dX2_function_32 : decode cX2_function 32 = .ok (.invokevirtual 53, 3) := by decide +kernel
theorem dX2_function_35 : decode cX2_function 35 = .ok (.return_, 1) := by decide +kernel
theorem mw_X2_function : MW yX2_function (Cond.code yX2_function cX2_function 2 (Option.none : Option Jvm.ClassFile.FieldType)) cX2_function 2 (Option.none : Option Jvm.ClassFile.FieldType) 1 := ⟨rfl, ⟨(lw_all_tbl q1964), rfl, (lw_all_tbl q164)⟩, rfl, ⟨by decide, by decide⟩, by decide +kernel⟩
noncomputable def c_X2_function (l0 : Int) (l1 : Int) : Mo CH Int :=
  bnd (gf [116] 0 l1) fun v1 =>
  bnd (gf [102] 2 l0) fun v2 =>
  bnd (gf [115] 3 v2) fun v3 =>
  if ¬ v1 = v3 then
    bnd (isk 102 l0) fun _ =>
    bnd (c_X2_sign l0 102) fun _ =>
    bnd (gf [116] 0 l1) fun v4 =>
    bnd (isk 102 l0) fun _ =>
    bnd (c_X2_number l0 v4) fun _ =>
    pr 0
  else
    bnd (isk 102 l0) fun _ =>
    bnd (c_X2_text l0 (-31)) fun _ =>
    pr 0
theorem sc_X2_function (g : gC) (d : Nat) (ts : TS) (l0 : Int) (l1 : Int) : SF g yX2_function (Cond.code yX2_function cX2_function 2 (Option.none : Option Jvm.ClassFile.FieldType)) (Option.none : Option Jvm.ClassFile.FieldType) (d + 5) [vA g l0, vA g l1] (fun h => (h, ts)) (c_X2_function l0 l1) := by
  refine SF.of (lv := [(0, vA g l0), (1, vA g l1)]) (by decide) (wt_A (wt_A wt_0)) rfl (by simp only [la_A, la_I, la_J, la_0]) (fun Γ hg hnm o => ?_)
  subst hg
  have o : Ok Γ "LazyForge$Writer" cX2_function 2 (Option.none : Option Jvm.ClassFile.FieldType) (d + 5) := o
  unfold c_X2_function
  refine s_aload_n o dX2_function_0 rfl 1 rfl ?_
  refine r_getf vI rfl o cf_X16_number (Or.inr (Or.inl ⟨_, q1146⟩)) dX2_function_1 (fun v1 hv1 => ?_)
  refine s_aload_n o dX2_function_4 rfl 0 rfl ?_
  refine r_getf (vA (mg Γ)) rfl o cf_X2_program (Or.inl (lw_all_tbl q228)) dX2_function_5 (fun v2 hv2 => ?_)
  refine r_getf vI rfl o cf_X15_main (Or.inr (Or.inl ⟨_, q1070⟩)) dX2_function_8 (fun v3 hv3 => ?_)
  refine s_icmp_ne (tgt := 21) o dX2_function_11 (by decide) hv1 hv3 ?_ ?_
  · refine s_aload_n o dX2_function_21 rfl 0 rfl ?_
    refine s_bipush o dX2_function_22 rfl ?_
    refine s_cvC (d := d + 4) (As := [vI 102]) (st := []) (c := 2) o (sc_X2_sign (mg Γ) (d + 4) ts l0 102 (rCl rfl)) mw_X2_sign rfl (Or.inl (lw_all_tbl q1939)) rfl (lw_all_tbl q1941) (lw_all_tbl q1940) wt_0 rfl dX2_function_24 rfl (rs := fun _ => []) (fun _ => rfl) (fun _ _ => ?_)
    refine s_aload_n o dX2_function_27 rfl 0 rfl ?_
    refine s_aload_n o dX2_function_28 rfl 1 rfl ?_
    refine r_getf vI rfl o cf_X16_number (Or.inr (Or.inl ⟨_, q1146⟩)) dX2_function_29 (fun v4 hv4 => ?_)
    refine s_cvC (d := d + 4) (As := [vI v4]) (st := []) (c := 2) o (sc_X2_number (mg Γ) (d + 3) ts l0 v4 hv4) mw_X2_number rfl (Or.inl (lw_all_tbl q1953)) rfl (lw_all_tbl q1955) (lw_all_tbl q1954) wt_0 rfl dX2_function_32 rfl (rs := fun _ => []) (fun _ => rfl) (fun _ _ => ?_)
    exact s_vret o rfl dX2_function_35 (fun _ hh => hh)
  · refine s_aload_n o dX2_function_14 rfl 0 rfl ?_
    refine s_ldcS (tx := "main") (k := 31) o (by decide +kernel) rfl (by decide) dX2_function_15 ?_
    refine s_cvC (d := d + 4) (As := [vA (mg Γ) (-31)]) (st := []) (c := 2) o (sc_X2_text (mg Γ) d ts l0 (-31)) mw_X2_text rfl (Or.inl (lw_all_tbl q1933)) rfl (lw_all_tbl q1935) (lw_all_tbl q1934) wt_0 rfl dX2_function_17 rfl (rs := fun _ => []) (fun _ => rfl) (fun _ _ => ?_)
    exact s_vret o rfl dX2_function_20 (fun _ hh => hh)
theorem dX19_write_0 : decode cX19_write 0 = .ok (.aload_n 1, 1) := by decide +kernel
theorem dX19_write_1 : decode cX19_write 1 = .ok (.aload_n 0, 1) := by decide +kernel
theorem dX19_write_2 : decode cX19_write 2 = .ok (.getfield 9, 3) := by decide +kernel
theorem dX19_write_5 : decode cX19_write 5 = .ok (.invokevirtual 48, 3) := by decide +kernel
theorem dX19_write_8 : decode cX19_write 8 = .ok (.return_, 1) := by decide +kernel
theorem mw_X19_write : MW yX19_write (Cond.code yX19_write cX19_write 2 (Option.none : Option Jvm.ClassFile.FieldType)) cX19_write 2 (Option.none : Option Jvm.ClassFile.FieldType) 1 := ⟨rfl, ⟨(lw_all_tbl q2015), rfl, (lw_all_tbl q199)⟩, rfl, ⟨by decide, by decide⟩, by decide +kernel⟩
noncomputable def c_X19_write (l0 : Int) (l1 : Int) : Mo CH Int :=
  bnd (gf [119] 5 l0) fun v1 =>
  bnd (isk 102 l1) fun _ =>
  bnd (c_X2_function l1 v1) fun _ =>
  pr 0
theorem sc_X19_write (g : gC) (d : Nat) (ts : TS) (l0 : Int) (l1 : Int) : SF g yX19_write (Cond.code yX19_write cX19_write 2 (Option.none : Option Jvm.ClassFile.FieldType)) (Option.none : Option Jvm.ClassFile.FieldType) (d + 6) [vA g l0, vA g l1] (fun h => (h, ts)) (c_X19_write l0 l1) := by
  refine SF.of (lv := [(0, vA g l0), (1, vA g l1)]) (by decide) (wt_A (wt_A wt_0)) rfl (by simp only [la_A, la_I, la_J, la_0]) (fun Γ hg hnm o => ?_)
  subst hg
  have o : Ok Γ "LazyForge$Named" cX19_write 2 (Option.none : Option Jvm.ClassFile.FieldType) (d + 6) := o
  unfold c_X19_write
  refine s_aload_n o dX19_write_0 rfl 1 rfl ?_
  refine s_aload_n o dX19_write_1 rfl 0 rfl ?_
  refine r_getf (vA (mg Γ)) rfl o cf_X19_function (Or.inl (lw_all_tbl q1367)) dX19_write_2 (fun v1 hv1 => ?_)
  refine s_cvC (d := d + 5) (As := [vA (mg Γ) v1]) (st := []) (c := 2) o (sc_X2_function (mg Γ) d ts l1 v1) mw_X2_function rfl (Or.inl (lw_all_tbl q2016)) rfl (lw_all_tbl q1963) (lw_all_tbl q1962) wt_0 rfl dX19_write_5 rfl (rs := fun _ => []) (fun _ => rfl) (fun _ _ => ?_)
  exact s_vret o rfl dX19_write_8 (fun _ hh => hh)
theorem dX20_write_0 : decode cX20_write 0 = .ok (.aload_n 1, 1) := by decide +kernel
theorem dX20_write_1 : decode cX20_write 1 = .ok (.aload_n 0, 1) := by decide +kernel
theorem dX20_write_2 : decode cX20_write 2 = .ok (.getfield 23, 3) := by decide +kernel
theorem dX20_write_5 : decode cX20_write 5 = .ok (.invokevirtual 37, 3) := by decide +kernel
theorem dX20_write_8 : decode cX20_write 8 = .ok (.return_, 1) := by decide +kernel
theorem mw_X20_write : MW yX20_write (Cond.code yX20_write cX20_write 2 (Option.none : Option Jvm.ClassFile.FieldType)) cX20_write 2 (Option.none : Option Jvm.ClassFile.FieldType) 1 := ⟨rfl, ⟨(lw_all_tbl q2022), rfl, (lw_all_tbl q200)⟩, rfl, ⟨by decide, by decide⟩, by decide +kernel⟩
noncomputable def c_X20_write (l0 : Int) (l1 : Int) : Mo CH Int :=
  bnd (gf [120] 7 l0) fun v1 =>
  bnd (isk 102 l1) fun _ =>
  bnd (c_X2_variable l1 v1) fun _ =>
  pr 0
theorem sc_X20_write (g : gC) (d : Nat) (ts : TS) (l0 : Int) (l1 : Int) : SF g yX20_write (Cond.code yX20_write cX20_write 2 (Option.none : Option Jvm.ClassFile.FieldType)) (Option.none : Option Jvm.ClassFile.FieldType) (d + 3) [vA g l0, vA g l1] (fun h => (h, ts)) (c_X20_write l0 l1) := by
  refine SF.of (lv := [(0, vA g l0), (1, vA g l1)]) (by decide) (wt_A (wt_A wt_0)) rfl (by simp only [la_A, la_I, la_J, la_0]) (fun Γ hg hnm o => ?_)
  subst hg
  have o : Ok Γ "LazyForge$Use" cX20_write 2 (Option.none : Option Jvm.ClassFile.FieldType) (d + 3) := o
  unfold c_X20_write
  refine s_aload_n o dX20_write_0 rfl 1 rfl ?_
  refine s_aload_n o dX20_write_1 rfl 0 rfl ?_
  refine r_getf vI rfl o cf_X20_number0 (Or.inl (lw_all_tbl q1446)) dX20_write_2 (fun v1 hv1 => ?_)
  refine s_cvC (d := d + 2) (As := [vI v1]) (st := []) (c := 2) o (sc_X2_variable (mg Γ) d ts l1 v1 hv1) mw_X2_variable rfl (Or.inl (lw_all_tbl q2023)) rfl (lw_all_tbl q1969) (lw_all_tbl q1968) wt_0 rfl dX20_write_5 rfl (rs := fun _ => []) (fun _ => rfl) (fun _ _ => ?_)
  exact s_vret o rfl dX20_write_8 (fun _ hh => hh)
theorem dX1_signOf_0 : decode cX1_signOf 0 = .ok (.iload_n 0, 1) := by decide +kernel
theorem dX1_signOf_1 : decode cX1_signOf 1 = .ok (.tableswitch 64 0 6 #[43, 46, 49, 52, 55, 58, 61], 43) := by decide +kernel
theorem dX1_signOf_44 : decode cX1_signOf 44 = .ok (.ldc 1, 2) := by decide +kernel
theorem dX1_signOf_46 : decode cX1_signOf 46 = .ok (.areturn, 1) := by decide +kernel
theorem dX1_signOf_47 : decode cX1_signOf 47 = .ok (.ldc 3, 2) := by decide +kernel
theorem dX1_signOf_49 : decode cX1_signOf 49 = .ok (.areturn, 1) := by decide +kernel
theorem dX1_signOf_50 : decode cX1_signOf 50 = .ok (.ldc 5, 2) := by decide +kernel
theorem dX1_signOf_52 : decode cX1_signOf 52 = .ok (.areturn, 1) := by decide +kernel
theorem dX1_signOf_53 : decode cX1_signOf 53 = .ok (.ldc 7, 2) := by decide +kernel
theorem dX1_signOf_55 : decode cX1_signOf 55 = .ok (.areturn, 1) := by decide +kernel
theorem dX1_signOf_56 : decode cX1_signOf 56 = .ok (.ldc 9, 2) := by decide +kernel
theorem dX1_signOf_58 : decode cX1_signOf 58 = .ok (.areturn, 1) := by decide +kernel
theorem dX1_signOf_59 : decode cX1_signOf 59 = .ok (.ldc 11, 2) := by decide +kernel
theorem dX1_signOf_61 : decode cX1_signOf 61 = .ok (.areturn, 1) := by decide +kernel
theorem dX1_signOf_62 : decode cX1_signOf 62 = .ok (.ldc 13, 2) := by decide +kernel
theorem dX1_signOf_64 : decode cX1_signOf 64 = .ok (.areturn, 1) := by decide +kernel
theorem dX1_signOf_65 : decode cX1_signOf 65 = .ok (.ldc 15, 2) := by decide +kernel
theorem dX1_signOf_67 : decode cX1_signOf 67 = .ok (.areturn, 1) := by decide +kernel
theorem mw_X1_signOf : MW yX1_signOf (Cond.code yX1_signOf cX1_signOf 1 (Option.some (Jvm.ClassFile.FieldType.object "java/lang/String"))) cX1_signOf 1 (Option.some (Jvm.ClassFile.FieldType.object "java/lang/String")) 1 := ⟨rfl, ⟨(lw_all_tbl q2026), rfl, (lw_all_tbl q163)⟩, rfl, ⟨by decide, by decide⟩, by decide +kernel⟩
noncomputable def c_X1_signOf (l0 : Int) : Mo CH Int :=
  if l0 = 0 then
    pr (-26)
  else
    if l0 = 1 then
      pr (-27)
    else
      if l0 = 2 then
        pr (-23)
      else
        if l0 = 3 then
          pr (-24)
        else
          if l0 = 4 then
            pr (-25)
          else
            if l0 = 5 then
              pr (-28)
            else
              if l0 = 6 then
                pr (-29)
              else
                pr (-30)
theorem sc_X1_signOf (g : gC) (d : Nat) (ts : TS) (l0 : Int) (hl0 : R32 l0) : SF g yX1_signOf (Cond.code yX1_signOf cX1_signOf 1 (Option.some (Jvm.ClassFile.FieldType.object "java/lang/String"))) (Option.some (Jvm.ClassFile.FieldType.object "java/lang/String")) (d + 0) [vI l0] (fun h => (h, ts)) (c_X1_signOf l0) := by
  refine SF.of (lv := [(0, vI l0)]) (by decide) (wt_I wt_0) rfl (by simp only [la_A, la_I, la_J, la_0]) (fun Γ hg hnm o => ?_)
  subst hg
  have o : Ok Γ "LazyForge" cX1_signOf 1 (Option.some (Jvm.ClassFile.FieldType.object "java/lang/String")) (d + 0) := o
  unfold c_X1_signOf
  refine s_iload_n o dX1_signOf_0 rfl 0 rfl ?_
  refine s_case (P := True) (fun e0 => ?_) (fun e0 => ?_)
  · refine s_tabE o e0 dX1_signOf_1 (r32 rfl) rfl rfl (tgt := 44) (by decide) ?_
    refine s_ldcS (tx := "+") (k := 26) o (by decide +kernel) rfl (by decide) dX1_signOf_44 ?_
    exact s_aret o rfl (Or.inl ⟨_, rfl⟩) dX1_signOf_46 (fun _ hh => hh)
  · refine s_case (P := True) (fun e1 => ?_) (fun e1 => ?_)
    · refine s_tabE o e1 dX1_signOf_1 (r32 rfl) rfl rfl (tgt := 47) (by decide) ?_
      refine s_ldcS (tx := "-") (k := 27) o (by decide +kernel) rfl (by decide) dX1_signOf_47 ?_
      exact s_aret o rfl (Or.inl ⟨_, rfl⟩) dX1_signOf_49 (fun _ hh => hh)
    · refine s_case (P := True) (fun e2 => ?_) (fun e2 => ?_)
      · refine s_tabE o e2 dX1_signOf_1 (r32 rfl) rfl rfl (tgt := 50) (by decide) ?_
        refine s_ldcS (tx := "*") (k := 23) o (by decide +kernel) rfl (by decide) dX1_signOf_50 ?_
        exact s_aret o rfl (Or.inl ⟨_, rfl⟩) dX1_signOf_52 (fun _ hh => hh)
      · refine s_case (P := True) (fun e3 => ?_) (fun e3 => ?_)
        · refine s_tabE o e3 dX1_signOf_1 (r32 rfl) rfl rfl (tgt := 53) (by decide) ?_
          refine s_ldcS (tx := "/") (k := 24) o (by decide +kernel) rfl (by decide) dX1_signOf_53 ?_
          exact s_aret o rfl (Or.inl ⟨_, rfl⟩) dX1_signOf_55 (fun _ hh => hh)
        · refine s_case (P := True) (fun e4 => ?_) (fun e4 => ?_)
          · refine s_tabE o e4 dX1_signOf_1 (r32 rfl) rfl rfl (tgt := 56) (by decide) ?_
            refine s_ldcS (tx := "%") (k := 25) o (by decide +kernel) rfl (by decide) dX1_signOf_56 ?_
            exact s_aret o rfl (Or.inl ⟨_, rfl⟩) dX1_signOf_58 (fun _ hh => hh)
          · refine s_case (P := True) (fun e5 => ?_) (fun e5 => ?_)
            · refine s_tabE o e5 dX1_signOf_1 (r32 rfl) rfl rfl (tgt := 59) (by decide) ?_
              refine s_ldcS (tx := "==") (k := 28) o (by decide +kernel) rfl (by decide) dX1_signOf_59 ?_
              exact s_aret o rfl (Or.inl ⟨_, rfl⟩) dX1_signOf_61 (fun _ hh => hh)
            · refine s_case (P := True) (fun e6 => ?_) (fun e6 => ?_)
              · refine s_tabE o e6 dX1_signOf_1 (r32 rfl) rfl rfl (tgt := 62) (by decide) ?_
                refine s_ldcS (tx := "<") (k := 29) o (by decide +kernel) rfl (by decide) dX1_signOf_62 ?_
                exact s_aret o rfl (Or.inl ⟨_, rfl⟩) dX1_signOf_64 (fun _ hh => hh)
              · refine s_tabOut o dX1_signOf_1 hl0 (by omega) (tgt := 65) (by decide) ?_
                refine s_ldcS (tx := "<=") (k := 30) o (by decide +kernel) rfl (by decide) dX1_signOf_65 ?_
                exact s_aret o rfl (Or.inl ⟨_, rfl⟩) dX1_signOf_67 (fun _ hh => hh)
theorem dX2_literal_0 : decode cX2_literal 0 = .ok (.lload_n 1, 1) := by decide +kernel
theorem dX2_literal_1 : decode cX2_literal 1 = .ok (.invokestatic 49, 3) := by decide +kernel
theorem dX2_literal_4 : decode cX2_literal 4 = .ok (.ifCond .eq 12, 3) := by decide +kernel
theorem dX2_literal_7 : decode cX2_literal 7 = .ok (.aload_n 0, 1) := by decide +kernel
theorem dX2_literal_8 : decode cX2_literal 8 = .ok (.lload_n 1, 1) := by decide +kernel
theorem dX2_literal_9 : decode cX2_literal 9 = .ok (.l2i, 1) := by decide +kernel
theorem dX2_literal_10 : decode cX2_literal 10 = .ok (.invokevirtual 53, 3) := by decide +kernel
theorem dX2_literal_13 : decode cX2_literal 13 = .ok (.goto 9, 3) := by decide +kernel
theorem dX2_literal_16 : decode cX2_literal 16 = .ok (.aload_n 0, 1) := by decide +kernel
theorem dX2_literal_17 : decode cX2_literal 17 = .ok (.lload_n 1, 1) := by decide +kernel
theorem dX2_literal_18 : decode cX2_literal 18 = .ok (.l2i, 1) := by decide +kernel
theorem dX2_literal_19 : decode cX2_literal 19 = .ok (.invokevirtual 57, 3) := by decide +kernel
theorem dX2_literal_22 : decode cX2_literal 22 = .ok (.return_, 1) := by decide +kernel
theorem mw_X2_literal : MW yX2_literal (Cond.code yX2_literal cX2_literal 3 (Option.none : Option Jvm.ClassFile.FieldType)) cX2_literal 3 (Option.none : Option Jvm.ClassFile.FieldType) 1 := ⟨rfl, ⟨(lw_all_tbl q2005), rfl, (lw_all_tbl q164)⟩, rfl, ⟨by decide, by decide⟩, by decide +kernel⟩
noncomputable def c_X2_literal (l0 : Int) (l1 : Int) : Mo CH Int :=
  bnd (c_X1_isInt l1) fun v1 =>
  if v1 = 0 then
    bnd (isk 102 l0) fun _ =>
    bnd (c_X2_constructor l0 (l2i l1)) fun _ =>
    pr 0
  else
    bnd (isk 102 l0) fun _ =>
    bnd (c_X2_number l0 (l2i l1)) fun _ =>
    pr 0
theorem sc_X2_literal (g : gC) (d : Nat) (ts : TS) (l0 : Int) (l1 : Int) (hl1 : R64 l1) : SF g yX2_literal (Cond.code yX2_literal cX2_literal 3 (Option.none : Option Jvm.ClassFile.FieldType)) (Option.none : Option Jvm.ClassFile.FieldType) (d + 3) [vA g l0, vJ l1] (fun h => (h, ts)) (c_X2_literal l0 l1) := by
  refine SF.of (lv := [(0, vA g l0), (1, vJ l1)]) (by decide) (wt_A (wt_J wt_0)) rfl (by simp only [la_A, la_I, la_J, la_0]) (fun Γ hg hnm o => ?_)
  subst hg
  have o : Ok Γ "LazyForge$Writer" cX2_literal 3 (Option.none : Option Jvm.ClassFile.FieldType) (d + 3) := o
  unfold c_X2_literal
  refine s_lload_n o dX2_literal_0 rfl 1 rfl ?_
  refine s_cs (d := d + 2) (As := [vJ l1]) (st := []) o (sc_X1_isInt (mg Γ) (d + 2) ts l1 hl1) mw_X1_isInt rfl (Or.inr ⟨_, q2006⟩) (lw_all_tbl q2007) wt_0 rfl dX2_literal_1 rfl (rs := fun r => [vI r]) (fun _ => rfl) (fun v1 hv1 => ?_)
  refine s_if_eq (tgt := 16) o dX2_literal_4 (by decide) (rZ (hv1 _ rfl)) ?_ ?_
  · refine s_aload_n o dX2_literal_16 rfl 0 rfl ?_
    refine s_lload_n o dX2_literal_17 rfl 1 rfl ?_
    refine s_l2i o dX2_literal_18 ?_
    refine s_cvC (d := d + 2) (As := [vI (l2i l1)]) (st := []) (c := 2) o (sc_X2_constructor (mg Γ) d ts l0 (l2i l1) (l2i_R _)) mw_X2_constructor rfl (Or.inl (lw_all_tbl q1944)) rfl (lw_all_tbl q1946) (lw_all_tbl q1945) wt_0 rfl dX2_literal_19 rfl (rs := fun _ => []) (fun _ => rfl) (fun _ _ => ?_)
    exact s_vret o rfl dX2_literal_22 (fun _ hh => hh)
  · refine s_aload_n o dX2_literal_7 rfl 0 rfl ?_
    refine s_lload_n o dX2_literal_8 rfl 1 rfl ?_
    refine s_l2i o dX2_literal_9 ?_
    refine s_cvC (d := d + 2) (As := [vI (l2i l1)]) (st := []) (c := 2) o (sc_X2_number (mg Γ) (d + 1) ts l0 (l2i l1) (l2i_R _)) mw_X2_number rfl (Or.inl (lw_all_tbl q1953)) rfl (lw_all_tbl q1955) (lw_all_tbl q1954) wt_0 rfl dX2_literal_10 rfl (rs := fun _ => []) (fun _ => rfl) (fun _ _ => ?_)
    refine s_goto (tgt := 22) o dX2_literal_13 (by decide) ?_
    exact s_vret o rfl dX2_literal_22 (fun _ hh => hh)
theorem dX24_write_0 : decode cX24_write 0 = .ok (.aload_n 1, 1) := by decide +kernel
theorem dX24_write_1 : decode cX24_write 1 = .ok (.aload_n 0, 1) := by decide +kernel
theorem dX24_write_2 : decode cX24_write 2 = .ok (.getfield 7, 3) := by decide +kernel
theorem dX24_write_5 : decode cX24_write 5 = .ok (.invokevirtual 19, 3) := by decide +kernel
theorem dX24_write_8 : decode cX24_write 8 = .ok (.return_, 1) := by decide +kernel
theorem mw_X24_write : MW yX24_write (Cond.code yX24_write cX24_write 2 (Option.none : Option Jvm.ClassFile.FieldType)) cX24_write 2 (Option.none : Option Jvm.ClassFile.FieldType) 1 := ⟨rfl, ⟨(lw_all_tbl q2001), rfl, (lw_all_tbl q204)⟩, rfl, ⟨by decide, by decide⟩, by decide +kernel⟩
noncomputable def c_X24_write (l0 : Int) (l1 : Int) : Mo CH Int :=
  bnd (gf [124] 5 l0) fun v1 =>
  bnd (isk 102 l1) fun _ =>
  bnd (c_X2_literal l1 v1) fun _ =>
  pr 0
theorem sc_X24_write (g : gC) (d : Nat) (ts : TS) (l0 : Int) (l1 : Int) : SF g yX24_write (Cond.code yX24_write cX24_write 2 (Option.none : Option Jvm.ClassFile.FieldType)) (Option.none : Option Jvm.ClassFile.FieldType) (d + 4) [vA g l0, vA g l1] (fun h => (h, ts)) (c_X24_write l0 l1) := by
  refine SF.of (lv := [(0, vA g l0), (1, vA g l1)]) (by decide) (wt_A (wt_A wt_0)) rfl (by simp only [la_A, la_I, la_J, la_0]) (fun Γ hg hnm o => ?_)
  subst hg
  have o : Ok Γ "LazyForge$Literal" cX24_write 2 (Option.none : Option Jvm.ClassFile.FieldType) (d + 4) := o
  unfold c_X24_write
  refine s_aload_n o dX24_write_0 rfl 1 rfl ?_
  refine s_aload_n o dX24_write_1 rfl 0 rfl ?_
  refine r_getf vJ rfl o cf_X24_value (Or.inl (lw_all_tbl q1550)) dX24_write_2 (fun v1 hv1 => ?_)
  refine s_cvC (d := d + 3) (As := [vJ v1]) (st := []) (c := 2) o (sc_X2_literal (mg Γ) d ts l1 v1 hv1) mw_X2_literal rfl (Or.inl (lw_all_tbl q2002)) rfl (lw_all_tbl q2004) (lw_all_tbl q2003) wt_0 rfl dX24_write_5 rfl (rs := fun _ => []) (fun _ => rfl) (fun _ _ => ?_)
  exact s_vret o rfl dX24_write_8 (fun _ hh => hh)
theorem dX23_write_0 : decode cX23_write 0 = .ok (.aload_n 1, 1) := by decide +kernel
theorem dX23_write_1 : decode cX23_write 1 = .ok (.bipush 40, 2) := by decide +kernel
theorem dX23_write_3 : decode cX23_write 3 = .ok (.invokevirtual 55, 3) := by decide +kernel
theorem dX23_write_6 : decode cX23_write 6 = .ok (.aload_n 0, 1) := by decide +kernel
theorem dX23_write_7 : decode cX23_write 7 = .ok (.getfield 13, 3) := by decide +kernel
theorem dX23_write_10 : decode cX23_write 10 = .ok (.aload_n 1, 1) := by decide +kernel
theorem dX23_write_11 : decode cX23_write 11 = .ok (.invokevirtual 61, 3) := by decide +kernel
theorem dX23_write_14 : decode cX23_write 14 = .ok (.aload_n 1, 1) := by decide +kernel
theorem dX23_write_15 : decode cX23_write 15 = .ok (.bipush 32, 2) := by decide +kernel
theorem dX23_write_17 : decode cX23_write 17 = .ok (.invokevirtual 55, 3) := by decide +kernel
theorem dX23_write_20 : decode cX23_write 20 = .ok (.aload_n 1, 1) := by decide +kernel
theorem dX23_write_21 : decode cX23_write 21 = .ok (.aload_n 0, 1) := by decide +kernel
theorem dX23_write_22 : decode cX23_write 22 = .ok (.getfield 7, 3) := by decide +kernel
theorem dX23_write_25 : decode cX23_write 25 = .ok (.invokestatic 65, 3) := by decide +kernel
theorem dX23_write_28 : decode cX23_write 28 = .ok (.invokevirtual 71, 3) := by decide +kernel
theorem dX23_write_31 : decode cX23_write 31 = .ok (.aload_n 1, 1) := by decide +kernel
theorem dX23_write_32 : decode cX23_write 32 = .ok (.bipush 32, 2) := by decide +kernel
theorem dX23_write_34 : decode cX23_write 34 = .ok (.invokevirtual 55, 3) := by decide +kernel
theorem dX23_write_37 : decode cX23_write 37 = .ok (.aload_n 0, 1) := by decide +kernel
theorem dX23_write_38 : decode cX23_write 38 = .ok (.getfield 17, 3) := by decide +kernel
theorem dX23_write_41 : decode cX23_write 41 = .ok (.aload_n 1, 1) := by decide +kernel
theorem dX23_write_42 : decode cX23_write 42 = .ok (.invokevirtual 61, 3) := by decide +kernel
theorem dX23_write_45 : decode cX23_write 45 = .ok (.aload_n 1, 1) := by decide +kernel
theorem dX23_write_46 : decode cX23_write 46 = .ok (.bipush 41, 2) := by decide +kernel
theorem dX23_write_48 : decode cX23_write 48 = .ok (.invokevirtual 55, 3) := by decide +kernel
theorem dX23_write_51 : decode cX23_write 51 = .ok (.return_, 1) := by decide +kernel
theorem mw_X23_write : MW yX23_write (Cond.code yX23_write cX23_write 2 (Option.none : Option Jvm.ClassFile.FieldType)) cX23_write 2 (Option.none : Option Jvm.ClassFile.FieldType) 1 := ⟨rfl, ⟨(lw_all_tbl q2018), rfl, (lw_all_tbl q203)⟩, rfl, ⟨by decide, by decide⟩, by decide +kernel⟩
theorem dX22_write_0 : decode cX22_write 0 = .ok (.aload_n 1, 1) := by decide +kernel
theorem dX22_write_1 : decode cX22_write 1 = .ok (.ldc 102, 2) := by decide +kernel
theorem dX22_write_3 : decode cX22_write 3 = .ok (.invokevirtual 104, 3) := by decide +kernel
theorem dX22_write_6 : decode cX22_write 6 = .ok (.aload_n 0, 1) := by decide +kernel
theorem dX22_write_7 : decode cX22_write 7 = .ok (.getfield 9, 3) := by decide +kernel
theorem dX22_write_10 : decode cX22_write 10 = .ok (.aload_n 1, 1) := by decide +kernel
theorem dX22_write_11 : decode cX22_write 11 = .ok (.invokevirtual 110, 3) := by decide +kernel
theorem dX22_write_14 : decode cX22_write 14 = .ok (.aload_n 1, 1) := by decide +kernel
theorem dX22_write_15 : decode cX22_write 15 = .ok (.ldc 114, 2) := by decide +kernel
theorem dX22_write_17 : decode cX22_write 17 = .ok (.invokevirtual 104, 3) := by decide +kernel
theorem dX22_write_20 : decode cX22_write 20 = .ok (.iconst 0, 1) := by decide +kernel
theorem dX22_write_21 : decode cX22_write 21 = .ok (.istore_n 2, 1) := by decide +kernel
theorem dX22_write_22 : decode cX22_write 22 = .ok (.iload_n 2, 1) := by decide +kernel
theorem dX22_write_23 : decode cX22_write 23 = .ok (.aload_n 0, 1) := by decide +kernel
theorem dX22_write_24 : decode cX22_write 24 = .ok (.getfield 26, 3) := by decide +kernel
theorem dX22_write_27 : decode cX22_write 27 = .ok (.arraylength, 1) := by decide +kernel
theorem dX22_write_28 : decode cX22_write 28 = .ok (.if_icmp .ge 136, 3) := by decide +kernel
theorem dX22_write_31 : decode cX22_write 31 = .ok (.iload_n 2, 1) := by decide +kernel
theorem dX22_write_32 : decode cX22_write 32 = .ok (.ifCond .le 9, 3) := by decide +kernel
theorem dX22_write_35 : decode cX22_write 35 = .ok (.aload_n 1, 1) := by decide +kernel
theorem dX22_write_36 : decode cX22_write 36 = .ok (.ldc 116, 2) := by decide +kernel
theorem dX22_write_38 : decode cX22_write 38 = .ok (.invokevirtual 104, 3) := by decide +kernel
theorem dX22_write_41 : decode cX22_write 41 = .ok (.aload_n 0, 1) := by decide +kernel
theorem dX22_write_42 : decode cX22_write 42 = .ok (.getfield 15, 3) := by decide +kernel
theorem dX22_write_45 : decode cX22_write 45 = .ok (.iload_n 2, 1) := by decide +kernel
theorem dX22_write_46 : decode cX22_write 46 = .ok (.iaload, 1) := by decide +kernel
theorem dX22_write_47 : decode cX22_write 47 = .ok (.iconst (-1), 1) := by decide +kernel
theorem dX22_write_48 : decode cX22_write 48 = .ok (.if_icmp .ne 12, 3) := by decide +kernel
theorem dX22_write_51 : decode cX22_write 51 = .ok (.aload_n 1, 1) := by decide +kernel
theorem dX22_write_52 : decode cX22_write 52 = .ok (.bipush 95, 2) := by decide +kernel
theorem dX22_write_54 : decode cX22_write 54 = .ok (.invokevirtual 118, 3) := by decide +kernel
theorem dX22_write_57 : decode cX22_write 57 = .ok (.goto 37, 3) := by decide +kernel
theorem dX22_write_60 : decode cX22_write 60 = .ok (.aload_n 0, 1) := by decide +kernel
theorem dX22_write_61 : decode cX22_write 61 = .ok (.getfield 15, 3) := by decide +kernel
theorem dX22_write_64 : decode cX22_write 64 = .ok (.iload_n 2, 1) := by decide +kernel
theorem dX22_write_65 : decode cX22_write 65 = .ok (.iaload, 1) := by decide +kernel
theorem dX22_write_66 : decode cX22_write 66 = .ok (.bipush (-2), 2) := by decide +kernel
theorem dX22_write_68 : decode cX22_write 68 = .ok (.if_icmp .ne 16, 3) := by decide +kernel
theorem dX22_write_71 : decode cX22_write 71 = .ok (.aload_n 1, 1) := by decide +kernel
theorem dX22_write_72 : decode cX22_write 72 = .ok (.aload_n 0, 1) := by decide +kernel
theorem dX22_write_73 : decode cX22_write 73 = .ok (.getfield 19, 3) := by decide +kernel
theorem dX22_write_76 : decode cX22_write 76 = .ok (.iload_n 2, 1) := by decide +kernel
theorem dX22_write_77 : decode cX22_write 77 = .ok (.iaload, 1) := by decide +kernel
theorem dX22_write_78 : decode cX22_write 78 = .ok (.invokevirtual 122, 3) := by decide +kernel
theorem dX22_write_81 : decode cX22_write 81 = .ok (.goto 13, 3) := by decide +kernel
theorem dX22_write_84 : decode cX22_write 84 = .ok (.aload_n 1, 1) := by decide +kernel
theorem dX22_write_85 : decode cX22_write 85 = .ok (.aload_n 0, 1) := by decide +kernel
theorem dX22_write_86 : decode cX22_write 86 = .ok (.getfield 15, 3) := by decide +kernel
theorem dX22_write_89 : decode cX22_write 89 = .ok (.iload_n 2, 1) := by decide +kernel
theorem dX22_write_90 : decode cX22_write 90 = .ok (.iaload, 1) := by decide +kernel
theorem dX22_write_91 : decode cX22_write 91 = .ok (.invokevirtual 124, 3) := by decide +kernel
theorem dX22_write_94 : decode cX22_write 94 = .ok (.aload_n 0, 1) := by decide +kernel
theorem dX22_write_95 : decode cX22_write 95 = .ok (.getfield 22, 3) := by decide +kernel
theorem dX22_write_98 : decode cX22_write 98 = .ok (.iload_n 2, 1) := by decide +kernel
theorem dX22_write_99 : decode cX22_write 99 = .ok (.aaload, 1) := by decide +kernel
theorem dX22_write_100 : decode cX22_write 100 = .ok (.astore_n 3, 1) := by decide +kernel
theorem dX22_write_101 : decode cX22_write 101 = .ok (.aload_n 3, 1) := by decide +kernel
theorem dX22_write_102 : decode cX22_write 102 = .ok (.arraylength, 1) := by decide +kernel
theorem dX22_write_103 : decode cX22_write 103 = .ok (.istore 4, 2) := by decide +kernel
theorem dX22_write_105 : decode cX22_write 105 = .ok (.iconst 0, 1) := by decide +kernel
theorem dX22_write_106 : decode cX22_write 106 = .ok (.istore 5, 2) := by decide +kernel
theorem dX22_write_108 : decode cX22_write 108 = .ok (.iload 5, 2) := by decide +kernel
theorem dX22_write_110 : decode cX22_write 110 = .ok (.iload 4, 2) := by decide +kernel
theorem dX22_write_112 : decode cX22_write 112 = .ok (.if_icmp .ge 30, 3) := by decide +kernel
theorem dX22_write_115 : decode cX22_write 115 = .ok (.aload_n 3, 1) := by decide +kernel
theorem dX22_write_116 : decode cX22_write 116 = .ok (.iload 5, 2) := by decide +kernel
theorem dX22_write_118 : decode cX22_write 118 = .ok (.aaload, 1) := by decide +kernel
theorem dX22_write_119 : decode cX22_write 119 = .ok (.astore 6, 2) := by decide +kernel
theorem dX22_write_121 : decode cX22_write 121 = .ok (.aload_n 1, 1) := by decide +kernel
theorem dX22_write_122 : decode cX22_write 122 = .ok (.bipush 32, 2) := by decide +kernel
theorem dX22_write_124 : decode cX22_write 124 = .ok (.invokevirtual 118, 3) := by decide +kernel
theorem dX22_write_127 : decode cX22_write 127 = .ok (.aload_n 1, 1) := by decide +kernel
theorem dX22_write_128 : decode cX22_write 128 = .ok (.aload 6, 2) := by decide +kernel
theorem dX22_write_130 : decode cX22_write 130 = .ok (.getfield 42, 3) := by decide +kernel
theorem dX22_write_133 : decode cX22_write 133 = .ok (.invokevirtual 127, 3) := by decide +kernel
theorem dX22_write_136 : decode cX22_write 136 = .ok (.iinc 5 1, 3) := by decide +kernel
theorem dX22_write_139 : decode cX22_write 139 = .ok (.goto (-31), 3) := by decide +kernel
theorem dX22_write_142 : decode cX22_write 142 = .ok (.aload_n 1, 1) := by decide +kernel
theorem dX22_write_143 : decode cX22_write 143 = .ok (.ldc 130, 2) := by decide +kernel
theorem dX22_write_145 : decode cX22_write 145 = .ok (.invokevirtual 104, 3) := by decide +kernel
theorem dX22_write_148 : decode cX22_write 148 = .ok (.aload_n 0, 1) := by decide +kernel
theorem dX22_write_149 : decode cX22_write 149 = .ok (.getfield 26, 3) := by decide +kernel
theorem dX22_write_152 : decode cX22_write 152 = .ok (.iload_n 2, 1) := by decide +kernel
theorem dX22_write_153 : decode cX22_write 153 = .ok (.aaload, 1) := by decide +kernel
theorem dX22_write_154 : decode cX22_write 154 = .ok (.aload_n 1, 1) := by decide +kernel
theorem dX22_write_155 : decode cX22_write 155 = .ok (.invokevirtual 110, 3) := by decide +kernel
theorem dX22_write_158 : decode cX22_write 158 = .ok (.iinc 2 1, 3) := by decide +kernel
theorem dX22_write_161 : decode cX22_write 161 = .ok (.goto (-139), 3) := by decide +kernel
theorem dX22_write_164 : decode cX22_write 164 = .ok (.aload_n 1, 1) := by decide +kernel
theorem dX22_write_165 : decode cX22_write 165 = .ok (.ldc 132, 2) := by decide +kernel
theorem dX22_write_167 : decode cX22_write 167 = .ok (.invokevirtual 104, 3) := by decide +kernel
theorem dX22_write_170 : decode cX22_write 170 = .ok (.return_, 1) := by decide +kernel
theorem mw_X22_write : MW yX22_write (Cond.code yX22_write cX22_write 7 (Option.none : Option Jvm.ClassFile.FieldType)) cX22_write 7 (Option.none : Option Jvm.ClassFile.FieldType) 1 := ⟨rfl, ⟨(lw_all_tbl q1984), rfl, (lw_all_tbl q202)⟩, rfl, ⟨by decide, by decide⟩, by decide +kernel⟩
theorem dX21_write_0 : decode cX21_write 0 = .ok (.aload_n 1, 1) := by decide +kernel
theorem dX21_write_1 : decode cX21_write 1 = .ok (.bipush 40, 2) := by decide +kernel
theorem dX21_write_3 : decode cX21_write 3 = .ok (.invokevirtual 124, 3) := by decide +kernel
theorem dX21_write_6 : decode cX21_write 6 = .ok (.aload_n 0, 1) := by decide +kernel
theorem dX21_write_7 : decode cX21_write 7 = .ok (.getfield 9, 3) := by decide +kernel
theorem dX21_write_10 : decode cX21_write 10 = .ok (.aload_n 1, 1) := by decide +kernel
theorem dX21_write_11 : decode cX21_write 11 = .ok (.invokevirtual 130, 3) := by decide +kernel
theorem dX21_write_14 : decode cX21_write 14 = .ok (.aload_n 0, 1) := by decide +kernel
theorem dX21_write_15 : decode cX21_write 15 = .ok (.getfield 15, 3) := by decide +kernel
theorem dX21_write_18 : decode cX21_write 18 = .ok (.astore_n 2, 1) := by decide +kernel
theorem dX21_write_19 : decode cX21_write 19 = .ok (.aload_n 2, 1) := by decide +kernel
theorem dX21_write_20 : decode cX21_write 20 = .ok (.arraylength, 1) := by decide +kernel
theorem dX21_write_21 : decode cX21_write 21 = .ok (.istore_n 3, 1) := by decide +kernel
theorem dX21_write_22 : decode cX21_write 22 = .ok (.iconst 0, 1) := by decide +kernel
theorem dX21_write_23 : decode cX21_write 23 = .ok (.istore 4, 2) := by decide +kernel
theorem dX21_write_25 : decode cX21_write 25 = .ok (.iload 4, 2) := by decide +kernel
theorem dX21_write_27 : decode cX21_write 27 = .ok (.iload_n 3, 1) := by decide +kernel
theorem dX21_write_28 : decode cX21_write 28 = .ok (.if_icmp .ge 27, 3) := by decide +kernel
theorem dX21_write_31 : decode cX21_write 31 = .ok (.aload_n 2, 1) := by decide +kernel
theorem dX21_write_32 : decode cX21_write 32 = .ok (.iload 4, 2) := by decide +kernel
theorem dX21_write_34 : decode cX21_write 34 = .ok (.aaload, 1) := by decide +kernel
theorem dX21_write_35 : decode cX21_write 35 = .ok (.astore 5, 2) := by decide +kernel
theorem dX21_write_37 : decode cX21_write 37 = .ok (.aload_n 1, 1) := by decide +kernel
theorem dX21_write_38 : decode cX21_write 38 = .ok (.bipush 32, 2) := by decide +kernel
theorem dX21_write_40 : decode cX21_write 40 = .ok (.invokevirtual 124, 3) := by decide +kernel
theorem dX21_write_43 : decode cX21_write 43 = .ok (.aload 5, 2) := by decide +kernel
theorem dX21_write_45 : decode cX21_write 45 = .ok (.aload_n 1, 1) := by decide +kernel
theorem dX21_write_46 : decode cX21_write 46 = .ok (.invokevirtual 130, 3) := by decide +kernel
theorem dX21_write_49 : decode cX21_write 49 = .ok (.iinc 4 1, 3) := by decide +kernel
theorem dX21_write_52 : decode cX21_write 52 = .ok (.goto (-27), 3) := by decide +kernel
theorem dX21_write_55 : decode cX21_write 55 = .ok (.aload_n 1, 1) := by decide +kernel
theorem dX21_write_56 : decode cX21_write 56 = .ok (.bipush 41, 2) := by decide +kernel
theorem dX21_write_58 : decode cX21_write 58 = .ok (.invokevirtual 124, 3) := by decide +kernel
theorem dX21_write_61 : decode cX21_write 61 = .ok (.return_, 1) := by decide +kernel
theorem mw_X21_write : MW yX21_write (Cond.code yX21_write cX21_write 6 (Option.none : Option Jvm.ClassFile.FieldType)) cX21_write 6 (Option.none : Option Jvm.ClassFile.FieldType) 1 := ⟨rfl, ⟨(lw_all_tbl q1980), rfl, (lw_all_tbl q201)⟩, rfl, ⟨by decide, by decide⟩, by decide +kernel⟩
theorem dX18_write_0 : decode cX18_write 0 = .ok (.aload_n 1, 1) := by decide +kernel
theorem dX18_write_1 : decode cX18_write 1 = .ok (.ldc 117, 2) := by decide +kernel
theorem dX18_write_3 : decode cX18_write 3 = .ok (.invokevirtual 119, 3) := by decide +kernel
theorem dX18_write_6 : decode cX18_write 6 = .ok (.iconst 0, 1) := by decide +kernel
theorem dX18_write_7 : decode cX18_write 7 = .ok (.istore_n 2, 1) := by decide +kernel
theorem dX18_write_8 : decode cX18_write 8 = .ok (.iload_n 2, 1) := by decide +kernel
theorem dX18_write_9 : decode cX18_write 9 = .ok (.aload_n 0, 1) := by decide +kernel
theorem dX18_write_10 : decode cX18_write 10 = .ok (.getfield 7, 3) := by decide +kernel
theorem dX18_write_13 : decode cX18_write 13 = .ok (.arraylength, 1) := by decide +kernel
theorem dX18_write_14 : decode cX18_write 14 = .ok (.if_icmp .ge 48, 3) := by decide +kernel
theorem dX18_write_17 : decode cX18_write 17 = .ok (.iload_n 2, 1) := by decide +kernel
theorem dX18_write_18 : decode cX18_write 18 = .ok (.ifCond .le 9, 3) := by decide +kernel
theorem dX18_write_21 : decode cX18_write 21 = .ok (.aload_n 1, 1) := by decide +kernel
theorem dX18_write_22 : decode cX18_write 22 = .ok (.ldc 125, 2) := by decide +kernel
theorem dX18_write_24 : decode cX18_write 24 = .ok (.invokevirtual 119, 3) := by decide +kernel
theorem dX18_write_27 : decode cX18_write 27 = .ok (.aload_n 1, 1) := by decide +kernel
theorem dX18_write_28 : decode cX18_write 28 = .ok (.aload_n 0, 1) := by decide +kernel
theorem dX18_write_29 : decode cX18_write 29 = .ok (.getfield 7, 3) := by decide +kernel
theorem dX18_write_32 : decode cX18_write 32 = .ok (.iload_n 2, 1) := by decide +kernel
theorem dX18_write_33 : decode cX18_write 33 = .ok (.aaload, 1) := by decide +kernel
theorem dX18_write_34 : decode cX18_write 34 = .ok (.getfield 25, 3) := by decide +kernel
theorem dX18_write_37 : decode cX18_write 37 = .ok (.invokevirtual 127, 3) := by decide +kernel
theorem dX18_write_40 : decode cX18_write 40 = .ok (.aload_n 1, 1) := by decide +kernel
theorem dX18_write_41 : decode cX18_write 41 = .ok (.ldc 131, 2) := by decide +kernel
theorem dX18_write_43 : decode cX18_write 43 = .ok (.invokevirtual 119, 3) := by decide +kernel
theorem dX18_write_46 : decode cX18_write 46 = .ok (.aload_n 0, 1) := by decide +kernel
theorem dX18_write_47 : decode cX18_write 47 = .ok (.getfield 13, 3) := by decide +kernel
theorem dX18_write_50 : decode cX18_write 50 = .ok (.iload_n 2, 1) := by decide +kernel
theorem dX18_write_51 : decode cX18_write 51 = .ok (.aaload, 1) := by decide +kernel
theorem dX18_write_52 : decode cX18_write 52 = .ok (.aload_n 1, 1) := by decide +kernel
theorem dX18_write_53 : decode cX18_write 53 = .ok (.invokevirtual 133, 3) := by decide +kernel
theorem dX18_write_56 : decode cX18_write 56 = .ok (.iinc 2 1, 3) := by decide +kernel
theorem dX18_write_59 : decode cX18_write 59 = .ok (.goto (-51), 3) := by decide +kernel
theorem dX18_write_62 : decode cX18_write 62 = .ok (.aload_n 1, 1) := by decide +kernel
theorem dX18_write_63 : decode cX18_write 63 = .ok (.ldc 137, 2) := by decide +kernel
theorem dX18_write_65 : decode cX18_write 65 = .ok (.invokevirtual 119, 3) := by decide +kernel
theorem dX18_write_68 : decode cX18_write 68 = .ok (.aload_n 0, 1) := by decide +kernel
theorem dX18_write_69 : decode cX18_write 69 = .ok (.getfield 17, 3) := by decide +kernel
theorem dX18_write_72 : decode cX18_write 72 = .ok (.aload_n 1, 1) := by decide +kernel
theorem dX18_write_73 : decode cX18_write 73 = .ok (.invokevirtual 133, 3) := by decide +kernel
theorem dX18_write_76 : decode cX18_write 76 = .ok (.aload_n 1, 1) := by decide +kernel
theorem dX18_write_77 : decode cX18_write 77 = .ok (.bipush 41, 2) := by decide +kernel
theorem dX18_write_79 : decode cX18_write 79 = .ok (.invokevirtual 139, 3) := by decide +kernel
theorem dX18_write_82 : decode cX18_write 82 = .ok (.return_, 1) := by decide +kernel
theorem mw_X18_write : MW yX18_write (Cond.code yX18_write cX18_write 3 (Option.none : Option Jvm.ClassFile.FieldType)) cX18_write 3 (Option.none : Option Jvm.ClassFile.FieldType) 1 := ⟨rfl, ⟨(lw_all_tbl q1993), rfl, (lw_all_tbl q198)⟩, rfl, ⟨by decide, by decide⟩, by decide +kernel⟩
theorem dX25_write_0 : decode cX25_write 0 = .ok (.aload_n 1, 1) := by decide +kernel
theorem dX25_write_1 : decode cX25_write 1 = .ok (.bipush 40, 2) := by decide +kernel
theorem dX25_write_3 : decode cX25_write 3 = .ok (.invokevirtual 59, 3) := by decide +kernel
theorem dX25_write_6 : decode cX25_write 6 = .ok (.aload_n 1, 1) := by decide +kernel
theorem dX25_write_7 : decode cX25_write 7 = .ok (.aload_n 0, 1) := by decide +kernel
theorem dX25_write_8 : decode cX25_write 8 = .ok (.getfield 9, 3) := by decide +kernel
theorem dX25_write_11 : decode cX25_write 11 = .ok (.invokevirtual 65, 3) := by decide +kernel
theorem dX25_write_14 : decode cX25_write 14 = .ok (.aload_n 0, 1) := by decide +kernel
theorem dX25_write_15 : decode cX25_write 15 = .ok (.getfield 15, 3) := by decide +kernel
theorem dX25_write_18 : decode cX25_write 18 = .ok (.astore_n 2, 1) := by decide +kernel
theorem dX25_write_19 : decode cX25_write 19 = .ok (.aload_n 2, 1) := by decide +kernel
theorem dX25_write_20 : decode cX25_write 20 = .ok (.arraylength, 1) := by decide +kernel
theorem dX25_write_21 : decode cX25_write 21 = .ok (.istore_n 3, 1) := by decide +kernel
theorem dX25_write_22 : decode cX25_write 22 = .ok (.iconst 0, 1) := by decide +kernel
theorem dX25_write_23 : decode cX25_write 23 = .ok (.istore 4, 2) := by decide +kernel
theorem dX25_write_25 : decode cX25_write 25 = .ok (.iload 4, 2) := by decide +kernel
theorem dX25_write_27 : decode cX25_write 27 = .ok (.iload_n 3, 1) := by decide +kernel
theorem dX25_write_28 : decode cX25_write 28 = .ok (.if_icmp .ge 27, 3) := by decide +kernel
theorem dX25_write_31 : decode cX25_write 31 = .ok (.aload_n 2, 1) := by decide +kernel
theorem dX25_write_32 : decode cX25_write 32 = .ok (.iload 4, 2) := by decide +kernel
theorem dX25_write_34 : decode cX25_write 34 = .ok (.aaload, 1) := by decide +kernel
theorem dX25_write_35 : decode cX25_write 35 = .ok (.astore 5, 2) := by decide +kernel
theorem dX25_write_37 : decode cX25_write 37 = .ok (.aload_n 1, 1) := by decide +kernel
theorem dX25_write_38 : decode cX25_write 38 = .ok (.bipush 32, 2) := by decide +kernel
theorem dX25_write_40 : decode cX25_write 40 = .ok (.invokevirtual 59, 3) := by decide +kernel
theorem dX25_write_43 : decode cX25_write 43 = .ok (.aload 5, 2) := by decide +kernel
theorem dX25_write_45 : decode cX25_write 45 = .ok (.aload_n 1, 1) := by decide +kernel
theorem dX25_write_46 : decode cX25_write 46 = .ok (.invokevirtual 68, 3) := by decide +kernel
theorem dX25_write_49 : decode cX25_write 49 = .ok (.iinc 4 1, 3) := by decide +kernel
theorem dX25_write_52 : decode cX25_write 52 = .ok (.goto (-27), 3) := by decide +kernel
theorem dX25_write_55 : decode cX25_write 55 = .ok (.aload_n 1, 1) := by decide +kernel
theorem dX25_write_56 : decode cX25_write 56 = .ok (.bipush 41, 2) := by decide +kernel
theorem dX25_write_58 : decode cX25_write 58 = .ok (.invokevirtual 59, 3) := by decide +kernel
theorem dX25_write_61 : decode cX25_write 61 = .ok (.return_, 1) := by decide +kernel
theorem mw_X25_write : MW yX25_write (Cond.code yX25_write cX25_write 6 (Option.none : Option Jvm.ClassFile.FieldType)) cX25_write 6 (Option.none : Option Jvm.ClassFile.FieldType) 1 := ⟨rfl, ⟨(lw_all_tbl q2010), rfl, (lw_all_tbl q205)⟩, rfl, ⟨by decide, by decide⟩, by decide +kernel⟩
def GR_write (g : gC) (ts : TS) (d : Nat) (rc : Rc) : Prop := (∀ (l0 : Int) (l1 : Int), VR g ts ⟨"LazyForge$Part", "write", "(LLazyForge$Writer;)V"⟩ none 1 d l0 [vA g l1] (rc 0 l0 l1 0 0 0))
theorem gr_write_0 {g : gC} {ts : TS} {d : Nat} {rc : Rc} (h : GR_write g ts d rc) : (∀ (l0 : Int) (l1 : Int), VR g ts ⟨"LazyForge$Part", "write", "(LLazyForge$Writer;)V"⟩ none 1 d l0 [vA g l1] (rc 0 l0 l1 0 0 0)) := h
noncomputable def b_X23_write (rc : Rc) (l0 : Int) (l1 : Int) : Mo CH Int :=
  bnd (isk 102 l1) fun _ =>
  bnd (c_X2_sign l1 40) fun _ =>
  bnd (gf [123] 6 l0) fun v1 =>
  bnd (rc 0 v1 l1 0 0 0) fun _ =>
  bnd (isk 102 l1) fun _ =>
  bnd (c_X2_sign l1 32) fun _ =>
  bnd (gf [123] 5 l0) fun v2 =>
  bnd (c_X1_signOf v2) fun v3 =>
  bnd (isk 102 l1) fun _ =>
  bnd (c_X2_text l1 v3) fun _ =>
  bnd (isk 102 l1) fun _ =>
  bnd (c_X2_sign l1 32) fun _ =>
  bnd (gf [123] 7 l0) fun v4 =>
  bnd (rc 0 v4 l1 0 0 0) fun _ =>
  bnd (isk 102 l1) fun _ =>
  bnd (c_X2_sign l1 41) fun _ =>
  pr 0
theorem sb_X23_write (g : gC) (d : Nat) (ts : TS) (rc : Rc) (hr : GR_write g ts (d + 6) rc) (l0 : Int) (l1 : Int) : SF g yX23_write (Cond.code yX23_write cX23_write 2 (Option.none : Option Jvm.ClassFile.FieldType)) (Option.none : Option Jvm.ClassFile.FieldType) (d + 7) [vA g l0, vA g l1] (fun h => (h, ts)) (b_X23_write rc l0 l1) := by
  refine SF.of (lv := [(0, vA g l0), (1, vA g l1)]) (by decide) (wt_A (wt_A wt_0)) rfl (by simp only [la_A, la_I, la_J, la_0]) (fun Γ hg hnm o => ?_)
  subst hg
  have o : Ok Γ "LazyForge$Sign" cX23_write 2 (Option.none : Option Jvm.ClassFile.FieldType) (d + 7) := o
  unfold b_X23_write
  refine s_aload_n o dX23_write_0 rfl 1 rfl ?_
  refine s_bipush o dX23_write_1 rfl ?_
  refine s_cvC (d := d + 6) (As := [vI 40]) (st := []) (c := 2) o (sc_X2_sign (mg Γ) (d + 6) ts l1 40 (rCl rfl)) mw_X2_sign rfl (Or.inl (lw_all_tbl q2019)) rfl (lw_all_tbl q1941) (lw_all_tbl q1940) wt_0 rfl dX23_write_3 rfl (rs := fun _ => []) (fun _ => rfl) (fun _ _ => ?_)
  refine s_aload_n o dX23_write_6 rfl 0 rfl ?_
  refine r_getf (vA (mg Γ)) rfl o cf_X23_one (Or.inl (lw_all_tbl q1526)) dX23_write_7 (fun v1 hv1 => ?_)
  refine s_aload_n o dX23_write_10 rfl 1 rfl ?_
  refine s_cu (d := d + 6) (As := [vA (mg Γ) l1]) (st := []) (owner := "LazyForge$Part") o (gr_write_0 hr v1 l1) rfl (lw_all_tbl q2020) (lw_all_tbl q1974) (Or.inl q1973) ⟨by decide, by decide⟩ (by decide +kernel) wt_0 rfl dX23_write_11 rfl (rs := fun _ => []) (fun _ => rfl) (fun _ _ => ?_)
  refine s_aload_n o dX23_write_14 rfl 1 rfl ?_
  refine s_bipush o dX23_write_15 rfl ?_
  refine s_cvC (d := d + 6) (As := [vI 32]) (st := []) (c := 2) o (sc_X2_sign (mg Γ) (d + 6) ts l1 32 (rCl rfl)) mw_X2_sign rfl (Or.inl (lw_all_tbl q2019)) rfl (lw_all_tbl q1941) (lw_all_tbl q1940) wt_0 rfl dX23_write_17 rfl (rs := fun _ => []) (fun _ => rfl) (fun _ _ => ?_)
  refine s_aload_n o dX23_write_20 rfl 1 rfl ?_
  refine s_aload_n o dX23_write_21 rfl 0 rfl ?_
  refine r_getf vI rfl o cf_X23_op (Or.inl (lw_all_tbl q1525)) dX23_write_22 (fun v2 hv2 => ?_)
  refine s_cs (d := d + 6) (As := [vI v2]) (st := [vA (mg Γ) l1]) o (sc_X1_signOf (mg Γ) (d + 6) ts v2 hv2) mw_X1_signOf rfl (Or.inr ⟨_, q2024⟩) (lw_all_tbl q2025) (wt_A wt_0) rfl dX23_write_25 rfl (rs := fun r => [vA (mg Γ) r, vA (mg Γ) l1]) (fun _ => rfl) (fun v3 hv3 => ?_)
  refine s_cvC (d := d + 6) (As := [vA (mg Γ) v3]) (st := []) (c := 2) o (sc_X2_text (mg Γ) (d + 2) ts l1 v3) mw_X2_text rfl (Or.inl (lw_all_tbl q2035)) rfl (lw_all_tbl q1935) (lw_all_tbl q1934) wt_0 rfl dX23_write_28 rfl (rs := fun _ => []) (fun _ => rfl) (fun _ _ => ?_)
  refine s_aload_n o dX23_write_31 rfl 1 rfl ?_
  refine s_bipush o dX23_write_32 rfl ?_
  refine s_cvC (d := d + 6) (As := [vI 32]) (st := []) (c := 2) o (sc_X2_sign (mg Γ) (d + 6) ts l1 32 (rCl rfl)) mw_X2_sign rfl (Or.inl (lw_all_tbl q2019)) rfl (lw_all_tbl q1941) (lw_all_tbl q1940) wt_0 rfl dX23_write_34 rfl (rs := fun _ => []) (fun _ => rfl) (fun _ _ => ?_)
  refine s_aload_n o dX23_write_37 rfl 0 rfl ?_
  refine r_getf (vA (mg Γ)) rfl o cf_X23_two (Or.inl (lw_all_tbl q1527)) dX23_write_38 (fun v4 hv4 => ?_)
  refine s_aload_n o dX23_write_41 rfl 1 rfl ?_
  refine s_cu (d := d + 6) (As := [vA (mg Γ) l1]) (st := []) (owner := "LazyForge$Part") o (gr_write_0 hr v4 l1) rfl (lw_all_tbl q2020) (lw_all_tbl q1974) (Or.inl q1973) ⟨by decide, by decide⟩ (by decide +kernel) wt_0 rfl dX23_write_42 rfl (rs := fun _ => []) (fun _ => rfl) (fun _ _ => ?_)
  refine s_aload_n o dX23_write_45 rfl 1 rfl ?_
  refine s_bipush o dX23_write_46 rfl ?_
  refine s_cvC (d := d + 6) (As := [vI 41]) (st := []) (c := 2) o (sc_X2_sign (mg Γ) (d + 6) ts l1 41 (rCl rfl)) mw_X2_sign rfl (Or.inl (lw_all_tbl q2019)) rfl (lw_all_tbl q1941) (lw_all_tbl q1940) wt_0 rfl dX23_write_48 rfl (rs := fun _ => []) (fun _ => rfl) (fun _ _ => ?_)
  exact s_vret o rfl dX23_write_51 (fun _ hh => hh)
abbrev okb_X22_write_108 (x : Int × Int × Int × Int × Int × Int) : Prop := R32 x.2.2.1 ∧ R32 x.2.2.2.2.1 ∧ R32 x.2.2.2.2.2
abbrev lvb_X22_write_108 (Γ : Gm) (x : Int × Int × Int × Int × Int × Int) : List (Nat × Value) := [(0, vA (mg Γ) x.1), (1, vA (mg Γ) x.2.1), (2, vI x.2.2.1), (3, vA (mg Γ) x.2.2.2.1), (4, vI x.2.2.2.2.1), (5, vI x.2.2.2.2.2)]
noncomputable def b_X22_write_108b (rc : Rc) {A : Type} (k_142 : Int → Int → Int → Mo CH A) (l0 : Int) (l1 : Int) (l2 : Int) (l3 : Int) (l4 : Int) (l5 : Int) : Mo CH ((Int × Int × Int × Int × Int × Int) ⊕ A) :=
  if l4 ≤ l5 then
    lo (k_142 l0 l1 l2)
  else
    bnd (ald 7 l3 l5) fun v1 =>
    bnd (isk 102 l1) fun _ =>
    bnd (c_X2_sign l1 32) fun _ =>
    bnd (gf [117] 1 v1) fun v2 =>
    bnd (isk 102 l1) fun _ =>
    bnd (c_X2_variable l1 v2) fun _ =>
    pr (.inl (l0, l1, l2, l3, l4, (w32 (l5 + 1))))
theorem sb_X22_write_108b {Γ : Gm} {ts : TS} {d : Nat} {rc : Rc} (hr : GR_write (mg Γ) ts (d + 6) rc) (o : Ok Γ "LazyForge$Case" cX22_write 7 (Option.none : Option Jvm.ClassFile.FieldType) (d + 7)) {A : Type} {K : A → CH → Prop} (k_142 : Int → Int → Int → Mo CH A) (hk_142 : ∀ (l0 : Int) (l1 : Int) (l2 : Int), R32 l2 → Sx Γ (fun h => (h, ts)) K 142 [(0, vA (mg Γ) l0), (1, vA (mg Γ) l1), (2, vI l2)] [] (k_142 l0 l1 l2)) (l0 : Int) (l1 : Int) (l2 : Int) (l3 : Int) (l4 : Int) (l5 : Int) (hl2 : R32 l2) (hl4 : R32 l4) (hl5 : R32 l5) : Sx Γ (fun h => (h, ts)) (KL Γ (fun h => (h, ts)) okb_X22_write_108 K 108 (lvb_X22_write_108 Γ) []) 108 [(0, vA (mg Γ) l0), (1, vA (mg Γ) l1), (2, vI l2), (3, vA (mg Γ) l3), (4, vI l4), (5, vI l5)] [] (b_X22_write_108b rc k_142 l0 l1 l2 l3 l4 l5) := by
  unfold b_X22_write_108b
  refine s_iload o dX22_write_108 5 rfl ?_
  refine s_iload o dX22_write_110 4 rfl ?_
  refine s_icmp_ge (tgt := 142) o dX22_write_112 (by decide) hl5 hl4 ?_ ?_
  · refine r_to [(0, vA (mg Γ) l0), (1, vA (mg Γ) l1), (2, vI l2)] [0, 1, 2] rfl ?_
    exact s_lo (hk_142 l0 l1 l2 hl2)
  · refine s_aload_n o dX22_write_115 rfl 3 rfl ?_
    refine s_iload o dX22_write_116 5 rfl ?_
    refine r_aald (kd := 7) o (by decide) rfl hl5 dX22_write_118 (fun v1 => ?_)
    refine r_astore o dX22_write_119 rfl ⟨(Nat.ne_of_beq_eq_false rfl), (fun _ => (vA_cat (mg Γ) l0)), ⟨(Nat.ne_of_beq_eq_false rfl), (fun _ => (vA_cat (mg Γ) l1)), ⟨(Nat.ne_of_beq_eq_false rfl), (fun _ => rfl), ⟨(Nat.ne_of_beq_eq_false rfl), (fun _ => (vA_cat (mg Γ) l3)), ⟨(Nat.ne_of_beq_eq_false rfl), (fun _ => rfl), ⟨(Nat.ne_of_beq_eq_false rfl), (fun _ => rfl), trivial⟩⟩⟩⟩⟩⟩ ?_
    refine s_aload_n o dX22_write_121 rfl 2 rfl ?_
    refine s_bipush o dX22_write_122 rfl ?_
    refine s_cvC (d := d + 6) (As := [vI 32]) (st := []) (c := 2) o (sc_X2_sign (mg Γ) (d + 6) ts l1 32 (rCl rfl)) mw_X2_sign rfl (Or.inl (lw_all_tbl q2040)) rfl (lw_all_tbl q1941) (lw_all_tbl q1940) wt_0 rfl dX22_write_124 rfl (rs := fun _ => []) (fun _ => rfl) (fun _ _ => ?_)
    refine s_aload_n o dX22_write_127 rfl 2 rfl ?_
    refine s_aload o dX22_write_128 0 rfl ?_
    refine r_getf vI rfl o cf_X17_number (Or.inr (Or.inl ⟨_, q1291⟩)) dX22_write_130 (fun v2 hv2 => ?_)
    refine s_cvC (d := d + 6) (As := [vI v2]) (st := []) (c := 2) o (sc_X2_variable (mg Γ) (d + 4) ts l1 v2 hv2) mw_X2_variable rfl (Or.inl (lw_all_tbl q2043)) rfl (lw_all_tbl q1969) (lw_all_tbl q1968) wt_0 rfl dX22_write_133 rfl (rs := fun _ => []) (fun _ => rfl) (fun _ _ => ?_)
    refine r_iinc (j := 6) o dX22_write_136 rfl rfl [(6, vA (mg Γ) v1), (0, vA (mg Γ) l0), (1, vA (mg Γ) l1), (2, vI l2), (3, vA (mg Γ) l3), (4, vI l4)] [0, 1, 2, 3, 4, 5] rfl ⟨(Nat.ne_of_beq_eq_false rfl), (fun _ => (vA_cat (mg Γ) v1)), ⟨(Nat.ne_of_beq_eq_false rfl), (fun _ => (vA_cat (mg Γ) l0)), ⟨(Nat.ne_of_beq_eq_false rfl), (fun _ => (vA_cat (mg Γ) l1)), ⟨(Nat.ne_of_beq_eq_false rfl), (fun _ => rfl), ⟨(Nat.ne_of_beq_eq_false rfl), (fun _ => (vA_cat (mg Γ) l3)), ⟨(Nat.ne_of_beq_eq_false rfl), (fun _ => rfl), trivial⟩⟩⟩⟩⟩⟩ ?_
    refine s_goto (tgt := 108) o dX22_write_139 (by decide) ?_
    refine r_to [(0, vA (mg Γ) l0), (1, vA (mg Γ) l1), (2, vI l2), (3, vA (mg Γ) l3), (4, vI l4), (5, vI (w32 (l5 + 1)))] [2, 3, 4, 5, 6, 0] rfl ?_
    exact s_back (⟨hl2, hl4, (w32_R _)⟩) rfl
noncomputable def b_X22_write_108 (rc : Rc) {A : Type} (k_142 : Int → Int → Int → Mo CH A) (l0 : Int) (l1 : Int) (l2 : Int) (l3 : Int) (l4 : Int) (l5 : Int) : Mo CH A := Loop (fun x => b_X22_write_108b rc k_142 x.1 x.2.1 x.2.2.1 x.2.2.2.1 x.2.2.2.2.1 x.2.2.2.2.2) (l0, l1, l2, l3, l4, l5)
theorem sb_X22_write_108 {Γ : Gm} {ts : TS} {d : Nat} {rc : Rc} (hr : GR_write (mg Γ) ts (d + 6) rc) (o : Ok Γ "LazyForge$Case" cX22_write 7 (Option.none : Option Jvm.ClassFile.FieldType) (d + 7)) {A : Type} {K : A → CH → Prop} (k_142 : Int → Int → Int → Mo CH A) (hk_142 : ∀ (l0 : Int) (l1 : Int) (l2 : Int), R32 l2 → Sx Γ (fun h => (h, ts)) K 142 [(0, vA (mg Γ) l0), (1, vA (mg Γ) l1), (2, vI l2)] [] (k_142 l0 l1 l2)) (l0 : Int) (l1 : Int) (l2 : Int) (l3 : Int) (l4 : Int) (l5 : Int) (hl2 : R32 l2) (hl4 : R32 l4) (hl5 : R32 l5) : Sx Γ (fun h => (h, ts)) K 108 [(0, vA (mg Γ) l0), (1, vA (mg Γ) l1), (2, vI l2), (3, vA (mg Γ) l3), (4, vI l4), (5, vI l5)] [] (b_X22_write_108 rc k_142 l0 l1 l2 l3 l4 l5) :=
  s_loop okb_X22_write_108 (lvb_X22_write_108 Γ) (fun x hx => sb_X22_write_108b hr o k_142 hk_142 x.1 x.2.1 x.2.2.1 x.2.2.2.1 x.2.2.2.2.1 x.2.2.2.2.2 hx.1 hx.2.1 hx.2.2) (x := (l0, l1, l2, l3, l4, l5)) ⟨hl2, hl4, hl5⟩
abbrev okb_X22_write_22 (x : Int × Int × Int) : Prop := R32 x.2.2
abbrev lvb_X22_write_22 (Γ : Gm) (x : Int × Int × Int) : List (Nat × Value) := [(0, vA (mg Γ) x.1), (1, vA (mg Γ) x.2.1), (2, vI x.2.2)]
noncomputable def b_X22_write_94 (rc : Rc) {A : Type} (k_164 : Int → Mo CH A) (l0 : Int) (l1 : Int) (l2 : Int) : Mo CH ((Int × Int × Int) ⊕ A) :=
  bnd (gf [122] 8 l0) fun v1 =>
  bnd (ald 9 v1 l2) fun v2 =>
  bnd (aln v2) fun v3 =>
  b_X22_write_108 rc
    (fun v4 v5 v6 => bnd (isk 102 v5) fun _ =>
  bnd (c_X2_text v5 (-42)) fun _ =>
  bnd (gf [122] 9 v4) fun v7 =>
  bnd (ald 5 v7 v6) fun v8 =>
  bnd (rc 0 v8 v5 0 0 0) fun _ =>
  pr (.inl (v4, v5, (w32 (v6 + 1))))) l0 l1 l2 v2 v3 0
theorem sb_X22_write_94 {Γ : Gm} {ts : TS} {d : Nat} {rc : Rc} (hr : GR_write (mg Γ) ts (d + 6) rc) (o : Ok Γ "LazyForge$Case" cX22_write 7 (Option.none : Option Jvm.ClassFile.FieldType) (d + 7)) {A : Type} {K : A → CH → Prop}  (k_164 : Int → Mo CH A) (hk_164 : ∀ (l1 : Int), Sx Γ (fun h => (h, ts)) K 164 [(1, vA (mg Γ) l1)] [] (k_164 l1)) (l0 : Int) (l1 : Int) (l2 : Int) (hl2 : R32 l2) : Sx Γ (fun h => (h, ts)) (KL Γ (fun h => (h, ts)) okb_X22_write_22 K 22 (lvb_X22_write_22 Γ) []) 94 [(0, vA (mg Γ) l0), (1, vA (mg Γ) l1), (2, vI l2)] [] (b_X22_write_94 rc k_164 l0 l1 l2) := by
  unfold b_X22_write_94
  refine s_aload_n o dX22_write_94 rfl 0 rfl ?_
  refine r_getf (vA (mg Γ)) rfl o cf_X22_bound (Or.inl (lw_all_tbl q1498)) dX22_write_95 (fun v1 hv1 => ?_)
  refine s_iload_n o dX22_write_98 rfl 2 rfl ?_
  refine r_aald (kd := 9) o (by decide) rfl hl2 dX22_write_99 (fun v2 => ?_)
  refine r_astore_n o dX22_write_100 rfl rfl ⟨(Nat.ne_of_beq_eq_false rfl), (fun _ => (vA_cat (mg Γ) l0)), ⟨(Nat.ne_of_beq_eq_false rfl), (fun _ => (vA_cat (mg Γ) l1)), ⟨(Nat.ne_of_beq_eq_false rfl), (fun _ => rfl), trivial⟩⟩⟩ ?_
  refine s_aload_n o dX22_write_101 rfl 0 rfl ?_
  refine s_alen o dX22_write_102 (fun v3 hv3 => ?_)
  refine r_istore o dX22_write_103 rfl ⟨(Nat.ne_of_beq_eq_false rfl), (fun _ => (vA_cat (mg Γ) v2)), ⟨(Nat.ne_of_beq_eq_false rfl), (fun _ => (vA_cat (mg Γ) l0)), ⟨(Nat.ne_of_beq_eq_false rfl), (fun _ => (vA_cat (mg Γ) l1)), ⟨(Nat.ne_of_beq_eq_false rfl), (fun _ => rfl), trivial⟩⟩⟩⟩ ?_
  refine s_iconst o dX22_write_105 ?_
  refine r_istore o dX22_write_106 rfl ⟨(Nat.ne_of_beq_eq_false rfl), (fun _ => rfl), ⟨(Nat.ne_of_beq_eq_false rfl), (fun _ => (vA_cat (mg Γ) v2)), ⟨(Nat.ne_of_beq_eq_false rfl), (fun _ => (vA_cat (mg Γ) l0)), ⟨(Nat.ne_of_beq_eq_false rfl), (fun _ => (vA_cat (mg Γ) l1)), ⟨(Nat.ne_of_beq_eq_false rfl), (fun _ => rfl), trivial⟩⟩⟩⟩⟩ ?_
  refine r_to [(0, vA (mg Γ) l0), (1, vA (mg Γ) l1), (2, vI l2), (3, vA (mg Γ) v2), (4, vI v3), (5, vI 0)] [3, 4, 5, 2, 1, 0] rfl ?_
  refine sb_X22_write_108 hr o _ ?_ l0 l1 l2 v2 v3 0 hl2 (rN hv3) (r32 rfl)
  · intro v4 v5 v6 hv6
    refine s_aload_n o dX22_write_142 rfl 1 rfl ?_
    refine s_ldcS (tx := " -> ") (k := 42) o (by decide +kernel) rfl (by decide) dX22_write_143 ?_
    refine s_cvC (d := d + 6) (As := [vA (mg Γ) (-42)]) (st := []) (c := 2) o (sc_X2_text (mg Γ) (d + 2) ts v5 (-42)) mw_X2_text rfl (Or.inl (lw_all_tbl q1986)) rfl (lw_all_tbl q1935) (lw_all_tbl q1934) wt_0 rfl dX22_write_145 rfl (rs := fun _ => []) (fun _ => rfl) (fun _ _ => ?_)
    refine s_aload_n o dX22_write_148 rfl 0 rfl ?_
    refine r_getf (vA (mg Γ)) rfl o cf_X22_parts0 (Or.inl (lw_all_tbl q1499)) dX22_write_149 (fun v7 hv7 => ?_)
    refine s_iload_n o dX22_write_152 rfl 2 rfl ?_
    refine r_aald (kd := 5) o (by decide) rfl hv6 dX22_write_153 (fun v8 => ?_)
    refine s_aload_n o dX22_write_154 rfl 1 rfl ?_
    refine s_cu (d := d + 6) (As := [vA (mg Γ) v5]) (st := []) (owner := "LazyForge$Part") o (gr_write_0 hr v8 v5) rfl (lw_all_tbl q1987) (lw_all_tbl q1974) (Or.inl q1973) ⟨by decide, by decide⟩ (by decide +kernel) wt_0 rfl dX22_write_155 rfl (rs := fun _ => []) (fun _ => rfl) (fun _ _ => ?_)
    refine r_iinc (j := 2) o dX22_write_158 rfl rfl [(0, vA (mg Γ) v4), (1, vA (mg Γ) v5)] [0, 1] rfl ⟨(Nat.ne_of_beq_eq_false rfl), (fun _ => (vA_cat (mg Γ) v4)), ⟨(Nat.ne_of_beq_eq_false rfl), (fun _ => (vA_cat (mg Γ) v5)), trivial⟩⟩ ?_
    refine s_goto (tgt := 22) o dX22_write_161 (by decide) ?_
    refine r_to [(0, vA (mg Γ) v4), (1, vA (mg Γ) v5), (2, vI (w32 (v6 + 1)))] [1, 2, 0] rfl ?_
    exact s_back (w32_R _) rfl
noncomputable def b_X22_write_41 (rc : Rc) {A : Type} (k_164 : Int → Mo CH A) (l0 : Int) (l1 : Int) (l2 : Int) : Mo CH ((Int × Int × Int) ⊕ A) :=
  bnd (gf [122] 6 l0) fun v1 =>
  bnd (ald 0 v1 l2) fun v2 =>
  if ¬ v2 = (-1) then
    bnd (gf [122] 6 l0) fun v3 =>
    bnd (ald 0 v3 l2) fun v4 =>
    if ¬ v4 = (-2) then
      bnd (gf [122] 6 l0) fun v5 =>
      bnd (ald 0 v5 l2) fun v6 =>
      bnd (isk 102 l1) fun _ =>
      bnd (c_X2_constructor l1 v6) fun _ =>
      b_X22_write_94 rc k_164 l0 l1 l2
    else
      bnd (gf [122] 7 l0) fun v7 =>
      bnd (ald 0 v7 l2) fun v8 =>
      bnd (isk 102 l1) fun _ =>
      bnd (c_X2_number l1 v8) fun _ =>
      b_X22_write_94 rc k_164 l0 l1 l2
  else
    bnd (isk 102 l1) fun _ =>
    bnd (c_X2_sign l1 95) fun _ =>
    b_X22_write_94 rc k_164 l0 l1 l2
theorem sb_X22_write_41 {Γ : Gm} {ts : TS} {d : Nat} {rc : Rc} (hr : GR_write (mg Γ) ts (d + 6) rc) (o : Ok Γ "LazyForge$Case" cX22_write 7 (Option.none : Option Jvm.ClassFile.FieldType) (d + 7)) {A : Type} {K : A → CH → Prop}  (k_164 : Int → Mo CH A) (hk_164 : ∀ (l1 : Int), Sx Γ (fun h => (h, ts)) K 164 [(1, vA (mg Γ) l1)] [] (k_164 l1)) (l0 : Int) (l1 : Int) (l2 : Int) (hl2 : R32 l2) : Sx Γ (fun h => (h, ts)) (KL Γ (fun h => (h, ts)) okb_X22_write_22 K 22 (lvb_X22_write_22 Γ) []) 41 [(0, vA (mg Γ) l0), (1, vA (mg Γ) l1), (2, vI l2)] [] (b_X22_write_41 rc k_164 l0 l1 l2) := by
  unfold b_X22_write_41
  refine s_aload_n o dX22_write_41 rfl 0 rfl ?_
  refine r_getf (vA (mg Γ)) rfl o cf_X22_patterns (Or.inl (lw_all_tbl q1496)) dX22_write_42 (fun v1 hv1 => ?_)
  refine s_iload_n o dX22_write_45 rfl 2 rfl ?_
  refine r_iald o hl2 dX22_write_46 (fun v2 hv2 => ?_)
  refine s_iconst o dX22_write_47 ?_
  refine s_icmp_ne (tgt := 60) o dX22_write_48 (by decide) hv2 (r32 rfl) ?_ ?_
  · refine s_aload_n o dX22_write_60 rfl 0 rfl ?_
    refine r_getf (vA (mg Γ)) rfl o cf_X22_patterns (Or.inl (lw_all_tbl q1496)) dX22_write_61 (fun v3 hv3 => ?_)
    refine s_iload_n o dX22_write_64 rfl 2 rfl ?_
    refine r_iald o hl2 dX22_write_65 (fun v4 hv4 => ?_)
    refine s_bipush o dX22_write_66 rfl ?_
    refine s_icmp_ne (tgt := 84) o dX22_write_68 (by decide) hv4 (r32 rfl) ?_ ?_
    · refine s_aload_n o dX22_write_84 rfl 1 rfl ?_
      refine s_aload_n o dX22_write_85 rfl 0 rfl ?_
      refine r_getf (vA (mg Γ)) rfl o cf_X22_patterns (Or.inl (lw_all_tbl q1496)) dX22_write_86 (fun v5 hv5 => ?_)
      refine s_iload_n o dX22_write_89 rfl 2 rfl ?_
      refine r_iald o hl2 dX22_write_90 (fun v6 hv6 => ?_)
      refine s_cvC (d := d + 6) (As := [vI v6]) (st := []) (c := 2) o (sc_X2_constructor (mg Γ) (d + 4) ts l1 v6 hv6) mw_X2_constructor rfl (Or.inl (lw_all_tbl q2042)) rfl (lw_all_tbl q1946) (lw_all_tbl q1945) wt_0 rfl dX22_write_91 rfl (rs := fun _ => []) (fun _ => rfl) (fun _ _ => ?_)
      exact sb_X22_write_94 hr o k_164 hk_164 l0 l1 l2 hl2
    · refine s_aload_n o dX22_write_71 rfl 1 rfl ?_
      refine s_aload_n o dX22_write_72 rfl 0 rfl ?_
      refine r_getf (vA (mg Γ)) rfl o cf_X22_numbers (Or.inl (lw_all_tbl q1497)) dX22_write_73 (fun v7 hv7 => ?_)
      refine s_iload_n o dX22_write_76 rfl 2 rfl ?_
      refine r_iald o hl2 dX22_write_77 (fun v8 hv8 => ?_)
      refine s_cvC (d := d + 6) (As := [vI v8]) (st := []) (c := 2) o (sc_X2_number (mg Γ) (d + 5) ts l1 v8 hv8) mw_X2_number rfl (Or.inl (lw_all_tbl q2041)) rfl (lw_all_tbl q1955) (lw_all_tbl q1954) wt_0 rfl dX22_write_78 rfl (rs := fun _ => []) (fun _ => rfl) (fun _ _ => ?_)
      refine s_goto (tgt := 94) o dX22_write_81 (by decide) ?_
      exact sb_X22_write_94 hr o k_164 hk_164 l0 l1 l2 hl2
  · refine s_aload_n o dX22_write_51 rfl 1 rfl ?_
    refine s_bipush o dX22_write_52 rfl ?_
    refine s_cvC (d := d + 6) (As := [vI 95]) (st := []) (c := 2) o (sc_X2_sign (mg Γ) (d + 6) ts l1 95 (rCl rfl)) mw_X2_sign rfl (Or.inl (lw_all_tbl q2040)) rfl (lw_all_tbl q1941) (lw_all_tbl q1940) wt_0 rfl dX22_write_54 rfl (rs := fun _ => []) (fun _ => rfl) (fun _ _ => ?_)
    refine s_goto (tgt := 94) o dX22_write_57 (by decide) ?_
    exact sb_X22_write_94 hr o k_164 hk_164 l0 l1 l2 hl2
noncomputable def b_X22_write_22b (rc : Rc) {A : Type} (k_164 : Int → Mo CH A) (l0 : Int) (l1 : Int) (l2 : Int) : Mo CH ((Int × Int × Int) ⊕ A) :=
  bnd (gf [122] 9 l0) fun v1 =>
  bnd (aln v1) fun v2 =>
  if v2 ≤ l2 then
    lo (k_164 l1)
  else
    if l2 ≤ 0 then
      b_X22_write_41 rc k_164 l0 l1 l2
    else
      bnd (isk 102 l1) fun _ =>
      bnd (c_X2_text l1 (-41)) fun _ =>
      b_X22_write_41 rc k_164 l0 l1 l2
theorem sb_X22_write_22b {Γ : Gm} {ts : TS} {d : Nat} {rc : Rc} (hr : GR_write (mg Γ) ts (d + 6) rc) (o : Ok Γ "LazyForge$Case" cX22_write 7 (Option.none : Option Jvm.ClassFile.FieldType) (d + 7)) {A : Type} {K : A → CH → Prop} (k_164 : Int → Mo CH A) (hk_164 : ∀ (l1 : Int), Sx Γ (fun h => (h, ts)) K 164 [(1, vA (mg Γ) l1)] [] (k_164 l1)) (l0 : Int) (l1 : Int) (l2 : Int) (hl2 : R32 l2) : Sx Γ (fun h => (h, ts)) (KL Γ (fun h => (h, ts)) okb_X22_write_22 K 22 (lvb_X22_write_22 Γ) []) 22 [(0, vA (mg Γ) l0), (1, vA (mg Γ) l1), (2, vI l2)] [] (b_X22_write_22b rc k_164 l0 l1 l2) := by
  unfold b_X22_write_22b
  refine s_iload_n o dX22_write_22 rfl 2 rfl ?_
  refine s_aload_n o dX22_write_23 rfl 0 rfl ?_
  refine r_getf (vA (mg Γ)) rfl o cf_X22_parts0 (Or.inl (lw_all_tbl q1499)) dX22_write_24 (fun v1 hv1 => ?_)
  refine s_alen o dX22_write_27 (fun v2 hv2 => ?_)
  refine s_icmp_ge (tgt := 164) o dX22_write_28 (by decide) hl2 (rN hv2) ?_ ?_
  · refine r_to [(1, vA (mg Γ) l1)] [1] rfl ?_
    exact s_lo (hk_164 l1)
  · refine s_iload_n o dX22_write_31 rfl 2 rfl ?_
    refine s_if_le (tgt := 41) o dX22_write_32 (by decide) hl2 ?_ ?_
    · exact sb_X22_write_41 hr o k_164 hk_164 l0 l1 l2 hl2
    · refine s_aload_n o dX22_write_35 rfl 1 rfl ?_
      refine s_ldcS (tx := "; ") (k := 41) o (by decide +kernel) rfl (by decide) dX22_write_36 ?_
      refine s_cvC (d := d + 6) (As := [vA (mg Γ) (-41)]) (st := []) (c := 2) o (sc_X2_text (mg Γ) (d + 2) ts l1 (-41)) mw_X2_text rfl (Or.inl (lw_all_tbl q1986)) rfl (lw_all_tbl q1935) (lw_all_tbl q1934) wt_0 rfl dX22_write_38 rfl (rs := fun _ => []) (fun _ => rfl) (fun _ _ => ?_)
      exact sb_X22_write_41 hr o k_164 hk_164 l0 l1 l2 hl2
noncomputable def b_X22_write_22 (rc : Rc) {A : Type} (k_164 : Int → Mo CH A) (l0 : Int) (l1 : Int) (l2 : Int) : Mo CH A := Loop (fun x => b_X22_write_22b rc k_164 x.1 x.2.1 x.2.2) (l0, l1, l2)
theorem sb_X22_write_22 {Γ : Gm} {ts : TS} {d : Nat} {rc : Rc} (hr : GR_write (mg Γ) ts (d + 6) rc) (o : Ok Γ "LazyForge$Case" cX22_write 7 (Option.none : Option Jvm.ClassFile.FieldType) (d + 7)) {A : Type} {K : A → CH → Prop} (k_164 : Int → Mo CH A) (hk_164 : ∀ (l1 : Int), Sx Γ (fun h => (h, ts)) K 164 [(1, vA (mg Γ) l1)] [] (k_164 l1)) (l0 : Int) (l1 : Int) (l2 : Int) (hl2 : R32 l2) : Sx Γ (fun h => (h, ts)) K 22 [(0, vA (mg Γ) l0), (1, vA (mg Γ) l1), (2, vI l2)] [] (b_X22_write_22 rc k_164 l0 l1 l2) :=
  s_loop okb_X22_write_22 (lvb_X22_write_22 Γ) (fun x hx => sb_X22_write_22b hr o k_164 hk_164 x.1 x.2.1 x.2.2 hx) (x := (l0, l1, l2)) hl2
noncomputable def b_X22_write (rc : Rc) (l0 : Int) (l1 : Int) : Mo CH Int :=
  bnd (isk 102 l1) fun _ =>
  bnd (c_X2_text l1 (-36)) fun _ =>
  bnd (gf [122] 5 l0) fun v1 =>
  bnd (rc 0 v1 l1 0 0 0) fun _ =>
  bnd (isk 102 l1) fun _ =>
  bnd (c_X2_text l1 (-40)) fun _ =>
  b_X22_write_22 rc
    (fun v2 => bnd (isk 102 v2) fun _ =>
  bnd (c_X2_text v2 (-43)) fun _ =>
  pr 0) l0 l1 0
theorem sb_X22_write (g : gC) (d : Nat) (ts : TS) (rc : Rc) (hr : GR_write g ts (d + 6) rc) (l0 : Int) (l1 : Int) : SF g yX22_write (Cond.code yX22_write cX22_write 7 (Option.none : Option Jvm.ClassFile.FieldType)) (Option.none : Option Jvm.ClassFile.FieldType) (d + 7) [vA g l0, vA g l1] (fun h => (h, ts)) (b_X22_write rc l0 l1) := by
  refine SF.of (lv := [(0, vA g l0), (1, vA g l1)]) (by decide) (wt_A (wt_A wt_0)) rfl (by simp only [la_A, la_I, la_J, la_0]) (fun Γ hg hnm o => ?_)
  subst hg
  have o : Ok Γ "LazyForge$Case" cX22_write 7 (Option.none : Option Jvm.ClassFile.FieldType) (d + 7) := o
  unfold b_X22_write
  refine s_aload_n o dX22_write_0 rfl 1 rfl ?_
  refine s_ldcS (tx := "(case ") (k := 36) o (by decide +kernel) rfl (by decide) dX22_write_1 ?_
  refine s_cvC (d := d + 6) (As := [vA (mg Γ) (-36)]) (st := []) (c := 2) o (sc_X2_text (mg Γ) (d + 2) ts l1 (-36)) mw_X2_text rfl (Or.inl (lw_all_tbl q1986)) rfl (lw_all_tbl q1935) (lw_all_tbl q1934) wt_0 rfl dX22_write_3 rfl (rs := fun _ => []) (fun _ => rfl) (fun _ _ => ?_)
  refine s_aload_n o dX22_write_6 rfl 0 rfl ?_
  refine r_getf (vA (mg Γ)) rfl o cf_X22_of (Or.inl (lw_all_tbl q1495)) dX22_write_7 (fun v1 hv1 => ?_)
  refine s_aload_n o dX22_write_10 rfl 1 rfl ?_
  refine s_cu (d := d + 6) (As := [vA (mg Γ) l1]) (st := []) (owner := "LazyForge$Part") o (gr_write_0 hr v1 l1) rfl (lw_all_tbl q1987) (lw_all_tbl q1974) (Or.inl q1973) ⟨by decide, by decide⟩ (by decide +kernel) wt_0 rfl dX22_write_11 rfl (rs := fun _ => []) (fun _ => rfl) (fun _ _ => ?_)
  refine s_aload_n o dX22_write_14 rfl 1 rfl ?_
  refine s_ldcS (tx := " of {") (k := 40) o (by decide +kernel) rfl (by decide) dX22_write_15 ?_
  refine s_cvC (d := d + 6) (As := [vA (mg Γ) (-40)]) (st := []) (c := 2) o (sc_X2_text (mg Γ) (d + 2) ts l1 (-40)) mw_X2_text rfl (Or.inl (lw_all_tbl q1986)) rfl (lw_all_tbl q1935) (lw_all_tbl q1934) wt_0 rfl dX22_write_17 rfl (rs := fun _ => []) (fun _ => rfl) (fun _ _ => ?_)
  refine s_iconst o dX22_write_20 ?_
  refine r_istore_n o dX22_write_21 rfl rfl ⟨(Nat.ne_of_beq_eq_false rfl), (fun _ => (vA_cat (mg Γ) l0)), ⟨(Nat.ne_of_beq_eq_false rfl), (fun _ => (vA_cat (mg Γ) l1)), trivial⟩⟩ ?_
  refine r_to [(0, vA (mg Γ) l0), (1, vA (mg Γ) l1), (2, vI 0)] [1, 2, 0] rfl ?_
  refine sb_X22_write_22 hr o _ ?_ l0 l1 0 (r32 rfl)
  · intro v2
    refine s_aload_n o dX22_write_164 rfl 0 rfl ?_
    refine s_ldcS (tx := "})") (k := 43) o (by decide +kernel) rfl (by decide) dX22_write_165 ?_
    refine s_cvC (d := d + 6) (As := [vA (mg Γ) (-43)]) (st := []) (c := 2) o (sc_X2_text (mg Γ) (d + 2) ts v2 (-43)) mw_X2_text rfl (Or.inl (lw_all_tbl q1986)) rfl (lw_all_tbl q1935) (lw_all_tbl q1934) wt_0 rfl dX22_write_167 rfl (rs := fun _ => []) (fun _ => rfl) (fun _ _ => ?_)
    exact s_vret o rfl dX22_write_170 (fun _ hh => hh)
abbrev okb_X21_write_25 (x : Int × Int × Int × Int) : Prop := R32 x.2.2.1 ∧ R32 x.2.2.2
abbrev lvb_X21_write_25 (Γ : Gm) (x : Int × Int × Int × Int) : List (Nat × Value) := [(1, vA (mg Γ) x.1), (2, vA (mg Γ) x.2.1), (3, vI x.2.2.1), (4, vI x.2.2.2)]
noncomputable def b_X21_write_25b (rc : Rc) {A : Type} (k_55 : Int → Mo CH A) (l1 : Int) (l2 : Int) (l3 : Int) (l4 : Int) : Mo CH ((Int × Int × Int × Int) ⊕ A) :=
  if l3 ≤ l4 then
    lo (k_55 l1)
  else
    bnd (ald 5 l2 l4) fun v1 =>
    bnd (isk 102 l1) fun _ =>
    bnd (c_X2_sign l1 32) fun _ =>
    bnd (rc 0 v1 l1 0 0 0) fun _ =>
    pr (.inl (l1, l2, l3, (w32 (l4 + 1))))
theorem sb_X21_write_25b {Γ : Gm} {ts : TS} {d : Nat} {rc : Rc} (hr : GR_write (mg Γ) ts (d + 6) rc) (o : Ok Γ "LazyForge$Apply" cX21_write 6 (Option.none : Option Jvm.ClassFile.FieldType) (d + 7)) {A : Type} {K : A → CH → Prop} (k_55 : Int → Mo CH A) (hk_55 : ∀ (l1 : Int), Sx Γ (fun h => (h, ts)) K 55 [(1, vA (mg Γ) l1)] [] (k_55 l1)) (l1 : Int) (l2 : Int) (l3 : Int) (l4 : Int) (hl3 : R32 l3) (hl4 : R32 l4) : Sx Γ (fun h => (h, ts)) (KL Γ (fun h => (h, ts)) okb_X21_write_25 K 25 (lvb_X21_write_25 Γ) []) 25 [(1, vA (mg Γ) l1), (2, vA (mg Γ) l2), (3, vI l3), (4, vI l4)] [] (b_X21_write_25b rc k_55 l1 l2 l3 l4) := by
  unfold b_X21_write_25b
  refine s_iload o dX21_write_25 3 rfl ?_
  refine s_iload_n o dX21_write_27 rfl 2 rfl ?_
  refine s_icmp_ge (tgt := 55) o dX21_write_28 (by decide) hl4 hl3 ?_ ?_
  · refine r_to [(1, vA (mg Γ) l1)] [0] rfl ?_
    exact s_lo (hk_55 l1)
  · refine s_aload_n o dX21_write_31 rfl 1 rfl ?_
    refine s_iload o dX21_write_32 3 rfl ?_
    refine r_aald (kd := 5) o (by decide) rfl hl4 dX21_write_34 (fun v1 => ?_)
    refine r_astore o dX21_write_35 rfl ⟨(Nat.ne_of_beq_eq_false rfl), (fun _ => (vA_cat (mg Γ) l1)), ⟨(Nat.ne_of_beq_eq_false rfl), (fun _ => (vA_cat (mg Γ) l2)), ⟨(Nat.ne_of_beq_eq_false rfl), (fun _ => rfl), ⟨(Nat.ne_of_beq_eq_false rfl), (fun _ => rfl), trivial⟩⟩⟩⟩ ?_
    refine s_aload_n o dX21_write_37 rfl 1 rfl ?_
    refine s_bipush o dX21_write_38 rfl ?_
    refine s_cvC (d := d + 6) (As := [vI 32]) (st := []) (c := 2) o (sc_X2_sign (mg Γ) (d + 6) ts l1 32 (rCl rfl)) mw_X2_sign rfl (Or.inl (lw_all_tbl q1981)) rfl (lw_all_tbl q1941) (lw_all_tbl q1940) wt_0 rfl dX21_write_40 rfl (rs := fun _ => []) (fun _ => rfl) (fun _ _ => ?_)
    refine s_aload o dX21_write_43 0 rfl ?_
    refine s_aload_n o dX21_write_45 rfl 1 rfl ?_
    refine s_cu (d := d + 6) (As := [vA (mg Γ) l1]) (st := []) (owner := "LazyForge$Part") o (gr_write_0 hr v1 l1) rfl (lw_all_tbl q1982) (lw_all_tbl q1974) (Or.inl q1973) ⟨by decide, by decide⟩ (by decide +kernel) wt_0 rfl dX21_write_46 rfl (rs := fun _ => []) (fun _ => rfl) (fun _ _ => ?_)
    refine r_iinc (j := 4) o dX21_write_49 rfl rfl [(5, vA (mg Γ) v1), (1, vA (mg Γ) l1), (2, vA (mg Γ) l2), (3, vI l3)] [0, 1, 2, 3] rfl ⟨(Nat.ne_of_beq_eq_false rfl), (fun _ => (vA_cat (mg Γ) v1)), ⟨(Nat.ne_of_beq_eq_false rfl), (fun _ => (vA_cat (mg Γ) l1)), ⟨(Nat.ne_of_beq_eq_false rfl), (fun _ => (vA_cat (mg Γ) l2)), ⟨(Nat.ne_of_beq_eq_false rfl), (fun _ => rfl), trivial⟩⟩⟩⟩ ?_
    refine s_goto (tgt := 25) o dX21_write_52 (by decide) ?_
    refine r_to [(1, vA (mg Γ) l1), (2, vA (mg Γ) l2), (3, vI l3), (4, vI (w32 (l4 + 1)))] [2, 3, 4, 0] rfl ?_
    exact s_back (⟨hl3, (w32_R _)⟩) rfl
noncomputable def b_X21_write_25 (rc : Rc) {A : Type} (k_55 : Int → Mo CH A) (l1 : Int) (l2 : Int) (l3 : Int) (l4 : Int) : Mo CH A := Loop (fun x => b_X21_write_25b rc k_55 x.1 x.2.1 x.2.2.1 x.2.2.2) (l1, l2, l3, l4)
theorem sb_X21_write_25 {Γ : Gm} {ts : TS} {d : Nat} {rc : Rc} (hr : GR_write (mg Γ) ts (d + 6) rc) (o : Ok Γ "LazyForge$Apply" cX21_write 6 (Option.none : Option Jvm.ClassFile.FieldType) (d + 7)) {A : Type} {K : A → CH → Prop} (k_55 : Int → Mo CH A) (hk_55 : ∀ (l1 : Int), Sx Γ (fun h => (h, ts)) K 55 [(1, vA (mg Γ) l1)] [] (k_55 l1)) (l1 : Int) (l2 : Int) (l3 : Int) (l4 : Int) (hl3 : R32 l3) (hl4 : R32 l4) : Sx Γ (fun h => (h, ts)) K 25 [(1, vA (mg Γ) l1), (2, vA (mg Γ) l2), (3, vI l3), (4, vI l4)] [] (b_X21_write_25 rc k_55 l1 l2 l3 l4) :=
  s_loop okb_X21_write_25 (lvb_X21_write_25 Γ) (fun x hx => sb_X21_write_25b hr o k_55 hk_55 x.1 x.2.1 x.2.2.1 x.2.2.2 hx.1 hx.2) (x := (l1, l2, l3, l4)) ⟨hl3, hl4⟩
noncomputable def b_X21_write (rc : Rc) (l0 : Int) (l1 : Int) : Mo CH Int :=
  bnd (isk 102 l1) fun _ =>
  bnd (c_X2_sign l1 40) fun _ =>
  bnd (gf [121] 5 l0) fun v1 =>
  bnd (rc 0 v1 l1 0 0 0) fun _ =>
  bnd (gf [121] 6 l0) fun v2 =>
  bnd (aln v2) fun v3 =>
  b_X21_write_25 rc
    (fun v4 => bnd (isk 102 v4) fun _ =>
  bnd (c_X2_sign v4 41) fun _ =>
  pr 0) l1 v2 v3 0
theorem sb_X21_write (g : gC) (d : Nat) (ts : TS) (rc : Rc) (hr : GR_write g ts (d + 6) rc) (l0 : Int) (l1 : Int) : SF g yX21_write (Cond.code yX21_write cX21_write 6 (Option.none : Option Jvm.ClassFile.FieldType)) (Option.none : Option Jvm.ClassFile.FieldType) (d + 7) [vA g l0, vA g l1] (fun h => (h, ts)) (b_X21_write rc l0 l1) := by
  refine SF.of (lv := [(0, vA g l0), (1, vA g l1)]) (by decide) (wt_A (wt_A wt_0)) rfl (by simp only [la_A, la_I, la_J, la_0]) (fun Γ hg hnm o => ?_)
  subst hg
  have o : Ok Γ "LazyForge$Apply" cX21_write 6 (Option.none : Option Jvm.ClassFile.FieldType) (d + 7) := o
  unfold b_X21_write
  refine s_aload_n o dX21_write_0 rfl 1 rfl ?_
  refine s_bipush o dX21_write_1 rfl ?_
  refine s_cvC (d := d + 6) (As := [vI 40]) (st := []) (c := 2) o (sc_X2_sign (mg Γ) (d + 6) ts l1 40 (rCl rfl)) mw_X2_sign rfl (Or.inl (lw_all_tbl q1981)) rfl (lw_all_tbl q1941) (lw_all_tbl q1940) wt_0 rfl dX21_write_3 rfl (rs := fun _ => []) (fun _ => rfl) (fun _ _ => ?_)
  refine s_aload_n o dX21_write_6 rfl 0 rfl ?_
  refine r_getf (vA (mg Γ)) rfl o cf_X21_head (Or.inl (lw_all_tbl q1468)) dX21_write_7 (fun v1 hv1 => ?_)
  refine s_aload_n o dX21_write_10 rfl 1 rfl ?_
  refine s_cu (d := d + 6) (As := [vA (mg Γ) l1]) (st := []) (owner := "LazyForge$Part") o (gr_write_0 hr v1 l1) rfl (lw_all_tbl q1982) (lw_all_tbl q1974) (Or.inl q1973) ⟨by decide, by decide⟩ (by decide +kernel) wt_0 rfl dX21_write_11 rfl (rs := fun _ => []) (fun _ => rfl) (fun _ _ => ?_)
  refine s_aload_n o dX21_write_14 rfl 0 rfl ?_
  refine r_getf (vA (mg Γ)) rfl o cf_X21_arguments (Or.inl (lw_all_tbl q1469)) dX21_write_15 (fun v2 hv2 => ?_)
  refine r_astore_n o dX21_write_18 rfl rfl ⟨(Nat.ne_of_beq_eq_false rfl), (fun _ => (vA_cat (mg Γ) l0)), ⟨(Nat.ne_of_beq_eq_false rfl), (fun _ => (vA_cat (mg Γ) l1)), trivial⟩⟩ ?_
  refine s_aload_n o dX21_write_19 rfl 0 rfl ?_
  refine s_alen o dX21_write_20 (fun v3 hv3 => ?_)
  refine r_istore_n o dX21_write_21 rfl rfl ⟨(Nat.ne_of_beq_eq_false rfl), (fun _ => (vA_cat (mg Γ) v2)), ⟨(Nat.ne_of_beq_eq_false rfl), (fun _ => (vA_cat (mg Γ) l0)), ⟨(Nat.ne_of_beq_eq_false rfl), (fun _ => (vA_cat (mg Γ) l1)), trivial⟩⟩⟩ ?_
  refine s_iconst o dX21_write_22 ?_
  refine r_istore o dX21_write_23 rfl ⟨(Nat.ne_of_beq_eq_false rfl), (fun _ => rfl), ⟨(Nat.ne_of_beq_eq_false rfl), (fun _ => (vA_cat (mg Γ) v2)), ⟨(Nat.ne_of_beq_eq_false rfl), (fun _ => (vA_cat (mg Γ) l0)), ⟨(Nat.ne_of_beq_eq_false rfl), (fun _ => (vA_cat (mg Γ) l1)), trivial⟩⟩⟩⟩ ?_
  refine r_to [(1, vA (mg Γ) l1), (2, vA (mg Γ) v2), (3, vI v3), (4, vI 0)] [4, 2, 1, 0] rfl ?_
  refine sb_X21_write_25 hr o _ ?_ l1 v2 v3 0 (rN hv3) (r32 rfl)
  · intro v4
    refine s_aload_n o dX21_write_55 rfl 0 rfl ?_
    refine s_bipush o dX21_write_56 rfl ?_
    refine s_cvC (d := d + 6) (As := [vI 41]) (st := []) (c := 2) o (sc_X2_sign (mg Γ) (d + 6) ts v4 41 (rCl rfl)) mw_X2_sign rfl (Or.inl (lw_all_tbl q1981)) rfl (lw_all_tbl q1941) (lw_all_tbl q1940) wt_0 rfl dX21_write_58 rfl (rs := fun _ => []) (fun _ => rfl) (fun _ _ => ?_)
    exact s_vret o rfl dX21_write_61 (fun _ hh => hh)
abbrev okb_X18_write_8 (x : Int × Int × Int) : Prop := R32 x.2.2
abbrev lvb_X18_write_8 (Γ : Gm) (x : Int × Int × Int) : List (Nat × Value) := [(0, vA (mg Γ) x.1), (1, vA (mg Γ) x.2.1), (2, vI x.2.2)]
noncomputable def b_X18_write_27 (rc : Rc) {A : Type} (k_62 : Int → Int → Mo CH A) (l0 : Int) (l1 : Int) (l2 : Int) : Mo CH ((Int × Int × Int) ⊕ A) :=
  bnd (gf [118] 5 l0) fun v1 =>
  bnd (ald 7 v1 l2) fun v2 =>
  bnd (gf [117] 1 v2) fun v3 =>
  bnd (isk 102 l1) fun _ =>
  bnd (c_X2_variable l1 v3) fun _ =>
  bnd (isk 102 l1) fun _ =>
  bnd (c_X2_text l1 (-35)) fun _ =>
  bnd (gf [118] 6 l0) fun v4 =>
  bnd (ald 5 v4 l2) fun v5 =>
  bnd (rc 0 v5 l1 0 0 0) fun _ =>
  pr (.inl (l0, l1, (w32 (l2 + 1))))
theorem sb_X18_write_27 {Γ : Gm} {ts : TS} {d : Nat} {rc : Rc} (hr : GR_write (mg Γ) ts (d + 6) rc) (o : Ok Γ "LazyForge$Let" cX18_write 3 (Option.none : Option Jvm.ClassFile.FieldType) (d + 7)) {A : Type} {K : A → CH → Prop}  (k_62 : Int → Int → Mo CH A) (hk_62 : ∀ (l0 : Int) (l1 : Int), Sx Γ (fun h => (h, ts)) K 62 [(0, vA (mg Γ) l0), (1, vA (mg Γ) l1)] [] (k_62 l0 l1)) (l0 : Int) (l1 : Int) (l2 : Int) (hl2 : R32 l2) : Sx Γ (fun h => (h, ts)) (KL Γ (fun h => (h, ts)) okb_X18_write_8 K 8 (lvb_X18_write_8 Γ) []) 27 [(0, vA (mg Γ) l0), (1, vA (mg Γ) l1), (2, vI l2)] [] (b_X18_write_27 rc k_62 l0 l1 l2) := by
  unfold b_X18_write_27
  refine s_aload_n o dX18_write_27 rfl 1 rfl ?_
  refine s_aload_n o dX18_write_28 rfl 0 rfl ?_
  refine r_getf (vA (mg Γ)) rfl o cf_X18_names (Or.inl (lw_all_tbl q1335)) dX18_write_29 (fun v1 hv1 => ?_)
  refine s_iload_n o dX18_write_32 rfl 2 rfl ?_
  refine r_aald (kd := 7) o (by decide) rfl hl2 dX18_write_33 (fun v2 => ?_)
  refine r_getf vI rfl o cf_X17_number (Or.inr (Or.inl ⟨_, q1290⟩)) dX18_write_34 (fun v3 hv3 => ?_)
  refine s_cvC (d := d + 6) (As := [vI v3]) (st := []) (c := 2) o (sc_X2_variable (mg Γ) (d + 4) ts l1 v3 hv3) mw_X2_variable rfl (Or.inl (lw_all_tbl q1997)) rfl (lw_all_tbl q1969) (lw_all_tbl q1968) wt_0 rfl dX18_write_37 rfl (rs := fun _ => []) (fun _ => rfl) (fun _ _ => ?_)
  refine s_aload_n o dX18_write_40 rfl 1 rfl ?_
  refine s_ldcS (tx := " = ") (k := 35) o (by decide +kernel) rfl (by decide) dX18_write_41 ?_
  refine s_cvC (d := d + 6) (As := [vA (mg Γ) (-35)]) (st := []) (c := 2) o (sc_X2_text (mg Γ) (d + 2) ts l1 (-35)) mw_X2_text rfl (Or.inl (lw_all_tbl q1995)) rfl (lw_all_tbl q1935) (lw_all_tbl q1934) wt_0 rfl dX18_write_43 rfl (rs := fun _ => []) (fun _ => rfl) (fun _ _ => ?_)
  refine s_aload_n o dX18_write_46 rfl 0 rfl ?_
  refine r_getf (vA (mg Γ)) rfl o cf_X18_bound (Or.inl (lw_all_tbl q1336)) dX18_write_47 (fun v4 hv4 => ?_)
  refine s_iload_n o dX18_write_50 rfl 2 rfl ?_
  refine r_aald (kd := 5) o (by decide) rfl hl2 dX18_write_51 (fun v5 => ?_)
  refine s_aload_n o dX18_write_52 rfl 1 rfl ?_
  refine s_cu (d := d + 6) (As := [vA (mg Γ) l1]) (st := []) (owner := "LazyForge$Part") o (gr_write_0 hr v5 l1) rfl (lw_all_tbl q1999) (lw_all_tbl q1974) (Or.inl q1973) ⟨by decide, by decide⟩ (by decide +kernel) wt_0 rfl dX18_write_53 rfl (rs := fun _ => []) (fun _ => rfl) (fun _ _ => ?_)
  refine r_iinc (j := 2) o dX18_write_56 rfl rfl [(0, vA (mg Γ) l0), (1, vA (mg Γ) l1)] [0, 1] rfl ⟨(Nat.ne_of_beq_eq_false rfl), (fun _ => (vA_cat (mg Γ) l0)), ⟨(Nat.ne_of_beq_eq_false rfl), (fun _ => (vA_cat (mg Γ) l1)), trivial⟩⟩ ?_
  refine s_goto (tgt := 8) o dX18_write_59 (by decide) ?_
  refine r_to [(0, vA (mg Γ) l0), (1, vA (mg Γ) l1), (2, vI (w32 (l2 + 1)))] [1, 2, 0] rfl ?_
  exact s_back (w32_R _) rfl
noncomputable def b_X18_write_8b (rc : Rc) {A : Type} (k_62 : Int → Int → Mo CH A) (l0 : Int) (l1 : Int) (l2 : Int) : Mo CH ((Int × Int × Int) ⊕ A) :=
  bnd (gf [118] 5 l0) fun v1 =>
  bnd (aln v1) fun v2 =>
  if v2 ≤ l2 then
    lo (k_62 l0 l1)
  else
    if l2 ≤ 0 then
      b_X18_write_27 rc k_62 l0 l1 l2
    else
      bnd (isk 102 l1) fun _ =>
      bnd (c_X2_text l1 (-38)) fun _ =>
      b_X18_write_27 rc k_62 l0 l1 l2
theorem sb_X18_write_8b {Γ : Gm} {ts : TS} {d : Nat} {rc : Rc} (hr : GR_write (mg Γ) ts (d + 6) rc) (o : Ok Γ "LazyForge$Let" cX18_write 3 (Option.none : Option Jvm.ClassFile.FieldType) (d + 7)) {A : Type} {K : A → CH → Prop} (k_62 : Int → Int → Mo CH A) (hk_62 : ∀ (l0 : Int) (l1 : Int), Sx Γ (fun h => (h, ts)) K 62 [(0, vA (mg Γ) l0), (1, vA (mg Γ) l1)] [] (k_62 l0 l1)) (l0 : Int) (l1 : Int) (l2 : Int) (hl2 : R32 l2) : Sx Γ (fun h => (h, ts)) (KL Γ (fun h => (h, ts)) okb_X18_write_8 K 8 (lvb_X18_write_8 Γ) []) 8 [(0, vA (mg Γ) l0), (1, vA (mg Γ) l1), (2, vI l2)] [] (b_X18_write_8b rc k_62 l0 l1 l2) := by
  unfold b_X18_write_8b
  refine s_iload_n o dX18_write_8 rfl 2 rfl ?_
  refine s_aload_n o dX18_write_9 rfl 0 rfl ?_
  refine r_getf (vA (mg Γ)) rfl o cf_X18_names (Or.inl (lw_all_tbl q1335)) dX18_write_10 (fun v1 hv1 => ?_)
  refine s_alen o dX18_write_13 (fun v2 hv2 => ?_)
  refine s_icmp_ge (tgt := 62) o dX18_write_14 (by decide) hl2 (rN hv2) ?_ ?_
  · refine r_to [(0, vA (mg Γ) l0), (1, vA (mg Γ) l1)] [0, 1] rfl ?_
    exact s_lo (hk_62 l0 l1)
  · refine s_iload_n o dX18_write_17 rfl 2 rfl ?_
    refine s_if_le (tgt := 27) o dX18_write_18 (by decide) hl2 ?_ ?_
    · exact sb_X18_write_27 hr o k_62 hk_62 l0 l1 l2 hl2
    · refine s_aload_n o dX18_write_21 rfl 1 rfl ?_
      refine s_ldcS (tx := ", ") (k := 38) o (by decide +kernel) rfl (by decide) dX18_write_22 ?_
      refine s_cvC (d := d + 6) (As := [vA (mg Γ) (-38)]) (st := []) (c := 2) o (sc_X2_text (mg Γ) (d + 2) ts l1 (-38)) mw_X2_text rfl (Or.inl (lw_all_tbl q1995)) rfl (lw_all_tbl q1935) (lw_all_tbl q1934) wt_0 rfl dX18_write_24 rfl (rs := fun _ => []) (fun _ => rfl) (fun _ _ => ?_)
      exact sb_X18_write_27 hr o k_62 hk_62 l0 l1 l2 hl2
noncomputable def b_X18_write_8 (rc : Rc) {A : Type} (k_62 : Int → Int → Mo CH A) (l0 : Int) (l1 : Int) (l2 : Int) : Mo CH A := Loop (fun x => b_X18_write_8b rc k_62 x.1 x.2.1 x.2.2) (l0, l1, l2)
theorem sb_X18_write_8 {Γ : Gm} {ts : TS} {d : Nat} {rc : Rc} (hr : GR_write (mg Γ) ts (d + 6) rc) (o : Ok Γ "LazyForge$Let" cX18_write 3 (Option.none : Option Jvm.ClassFile.FieldType) (d + 7)) {A : Type} {K : A → CH → Prop} (k_62 : Int → Int → Mo CH A) (hk_62 : ∀ (l0 : Int) (l1 : Int), Sx Γ (fun h => (h, ts)) K 62 [(0, vA (mg Γ) l0), (1, vA (mg Γ) l1)] [] (k_62 l0 l1)) (l0 : Int) (l1 : Int) (l2 : Int) (hl2 : R32 l2) : Sx Γ (fun h => (h, ts)) K 8 [(0, vA (mg Γ) l0), (1, vA (mg Γ) l1), (2, vI l2)] [] (b_X18_write_8 rc k_62 l0 l1 l2) :=
  s_loop okb_X18_write_8 (lvb_X18_write_8 Γ) (fun x hx => sb_X18_write_8b hr o k_62 hk_62 x.1 x.2.1 x.2.2 hx) (x := (l0, l1, l2)) hl2
noncomputable def b_X18_write (rc : Rc) (l0 : Int) (l1 : Int) : Mo CH Int :=
  bnd (isk 102 l1) fun _ =>
  bnd (c_X2_text l1 (-37)) fun _ =>
  b_X18_write_8 rc
    (fun v1 v2 => bnd (isk 102 v2) fun _ =>
  bnd (c_X2_text v2 (-39)) fun _ =>
  bnd (gf [118] 7 v1) fun v3 =>
  bnd (rc 0 v3 v2 0 0 0) fun _ =>
  bnd (isk 102 v2) fun _ =>
  bnd (c_X2_sign v2 41) fun _ =>
  pr 0) l0 l1 0
theorem sb_X18_write (g : gC) (d : Nat) (ts : TS) (rc : Rc) (hr : GR_write g ts (d + 6) rc) (l0 : Int) (l1 : Int) : SF g yX18_write (Cond.code yX18_write cX18_write 3 (Option.none : Option Jvm.ClassFile.FieldType)) (Option.none : Option Jvm.ClassFile.FieldType) (d + 7) [vA g l0, vA g l1] (fun h => (h, ts)) (b_X18_write rc l0 l1) := by
  refine SF.of (lv := [(0, vA g l0), (1, vA g l1)]) (by decide) (wt_A (wt_A wt_0)) rfl (by simp only [la_A, la_I, la_J, la_0]) (fun Γ hg hnm o => ?_)
  subst hg
  have o : Ok Γ "LazyForge$Let" cX18_write 3 (Option.none : Option Jvm.ClassFile.FieldType) (d + 7) := o
  unfold b_X18_write
  refine s_aload_n o dX18_write_0 rfl 1 rfl ?_
  refine s_ldcS (tx := "(let ") (k := 37) o (by decide +kernel) rfl (by decide) dX18_write_1 ?_
  refine s_cvC (d := d + 6) (As := [vA (mg Γ) (-37)]) (st := []) (c := 2) o (sc_X2_text (mg Γ) (d + 2) ts l1 (-37)) mw_X2_text rfl (Or.inl (lw_all_tbl q1995)) rfl (lw_all_tbl q1935) (lw_all_tbl q1934) wt_0 rfl dX18_write_3 rfl (rs := fun _ => []) (fun _ => rfl) (fun _ _ => ?_)
  refine s_iconst o dX18_write_6 ?_
  refine r_istore_n o dX18_write_7 rfl rfl ⟨(Nat.ne_of_beq_eq_false rfl), (fun _ => (vA_cat (mg Γ) l0)), ⟨(Nat.ne_of_beq_eq_false rfl), (fun _ => (vA_cat (mg Γ) l1)), trivial⟩⟩ ?_
  refine r_to [(0, vA (mg Γ) l0), (1, vA (mg Γ) l1), (2, vI 0)] [1, 2, 0] rfl ?_
  refine sb_X18_write_8 hr o _ ?_ l0 l1 0 (r32 rfl)
  · intro v1 v2
    refine s_aload_n o dX18_write_62 rfl 1 rfl ?_
    refine s_ldcS (tx := " in ") (k := 39) o (by decide +kernel) rfl (by decide) dX18_write_63 ?_
    refine s_cvC (d := d + 6) (As := [vA (mg Γ) (-39)]) (st := []) (c := 2) o (sc_X2_text (mg Γ) (d + 2) ts v2 (-39)) mw_X2_text rfl (Or.inl (lw_all_tbl q1995)) rfl (lw_all_tbl q1935) (lw_all_tbl q1934) wt_0 rfl dX18_write_65 rfl (rs := fun _ => []) (fun _ => rfl) (fun _ _ => ?_)
    refine s_aload_n o dX18_write_68 rfl 0 rfl ?_
    refine r_getf (vA (mg Γ)) rfl o cf_X18_body (Or.inl (lw_all_tbl q1337)) dX18_write_69 (fun v3 hv3 => ?_)
    refine s_aload_n o dX18_write_72 rfl 1 rfl ?_
    refine s_cu (d := d + 6) (As := [vA (mg Γ) v2]) (st := []) (owner := "LazyForge$Part") o (gr_write_0 hr v3 v2) rfl (lw_all_tbl q1999) (lw_all_tbl q1974) (Or.inl q1973) ⟨by decide, by decide⟩ (by decide +kernel) wt_0 rfl dX18_write_73 rfl (rs := fun _ => []) (fun _ => rfl) (fun _ _ => ?_)
    refine s_aload_n o dX18_write_76 rfl 1 rfl ?_
    refine s_bipush o dX18_write_77 rfl ?_
    refine s_cvC (d := d + 6) (As := [vI 41]) (st := []) (c := 2) o (sc_X2_sign (mg Γ) (d + 6) ts v2 41 (rCl rfl)) mw_X2_sign rfl (Or.inl (lw_all_tbl q2037)) rfl (lw_all_tbl q1941) (lw_all_tbl q1940) wt_0 rfl dX18_write_79 rfl (rs := fun _ => []) (fun _ => rfl) (fun _ _ => ?_)
    exact s_vret o rfl dX18_write_82 (fun _ hh => hh)
abbrev okb_X25_write_25 (x : Int × Int × Int × Int) : Prop := R32 x.2.2.1 ∧ R32 x.2.2.2
abbrev lvb_X25_write_25 (Γ : Gm) (x : Int × Int × Int × Int) : List (Nat × Value) := [(1, vA (mg Γ) x.1), (2, vA (mg Γ) x.2.1), (3, vI x.2.2.1), (4, vI x.2.2.2)]
noncomputable def b_X25_write_25b (rc : Rc) {A : Type} (k_55 : Int → Mo CH A) (l1 : Int) (l2 : Int) (l3 : Int) (l4 : Int) : Mo CH ((Int × Int × Int × Int) ⊕ A) :=
  if l3 ≤ l4 then
    lo (k_55 l1)
  else
    bnd (ald 5 l2 l4) fun v1 =>
    bnd (isk 102 l1) fun _ =>
    bnd (c_X2_sign l1 32) fun _ =>
    bnd (rc 0 v1 l1 0 0 0) fun _ =>
    pr (.inl (l1, l2, l3, (w32 (l4 + 1))))
theorem sb_X25_write_25b {Γ : Gm} {ts : TS} {d : Nat} {rc : Rc} (hr : GR_write (mg Γ) ts (d + 6) rc) (o : Ok Γ "LazyForge$Made" cX25_write 6 (Option.none : Option Jvm.ClassFile.FieldType) (d + 7)) {A : Type} {K : A → CH → Prop} (k_55 : Int → Mo CH A) (hk_55 : ∀ (l1 : Int), Sx Γ (fun h => (h, ts)) K 55 [(1, vA (mg Γ) l1)] [] (k_55 l1)) (l1 : Int) (l2 : Int) (l3 : Int) (l4 : Int) (hl3 : R32 l3) (hl4 : R32 l4) : Sx Γ (fun h => (h, ts)) (KL Γ (fun h => (h, ts)) okb_X25_write_25 K 25 (lvb_X25_write_25 Γ) []) 25 [(1, vA (mg Γ) l1), (2, vA (mg Γ) l2), (3, vI l3), (4, vI l4)] [] (b_X25_write_25b rc k_55 l1 l2 l3 l4) := by
  unfold b_X25_write_25b
  refine s_iload o dX25_write_25 3 rfl ?_
  refine s_iload_n o dX25_write_27 rfl 2 rfl ?_
  refine s_icmp_ge (tgt := 55) o dX25_write_28 (by decide) hl4 hl3 ?_ ?_
  · refine r_to [(1, vA (mg Γ) l1)] [0] rfl ?_
    exact s_lo (hk_55 l1)
  · refine s_aload_n o dX25_write_31 rfl 1 rfl ?_
    refine s_iload o dX25_write_32 3 rfl ?_
    refine r_aald (kd := 5) o (by decide) rfl hl4 dX25_write_34 (fun v1 => ?_)
    refine r_astore o dX25_write_35 rfl ⟨(Nat.ne_of_beq_eq_false rfl), (fun _ => (vA_cat (mg Γ) l1)), ⟨(Nat.ne_of_beq_eq_false rfl), (fun _ => (vA_cat (mg Γ) l2)), ⟨(Nat.ne_of_beq_eq_false rfl), (fun _ => rfl), ⟨(Nat.ne_of_beq_eq_false rfl), (fun _ => rfl), trivial⟩⟩⟩⟩ ?_
    refine s_aload_n o dX25_write_37 rfl 1 rfl ?_
    refine s_bipush o dX25_write_38 rfl ?_
    refine s_cvC (d := d + 6) (As := [vI 32]) (st := []) (c := 2) o (sc_X2_sign (mg Γ) (d + 6) ts l1 32 (rCl rfl)) mw_X2_sign rfl (Or.inl (lw_all_tbl q2011)) rfl (lw_all_tbl q1941) (lw_all_tbl q1940) wt_0 rfl dX25_write_40 rfl (rs := fun _ => []) (fun _ => rfl) (fun _ _ => ?_)
    refine s_aload o dX25_write_43 0 rfl ?_
    refine s_aload_n o dX25_write_45 rfl 1 rfl ?_
    refine s_cu (d := d + 6) (As := [vA (mg Γ) l1]) (st := []) (owner := "LazyForge$Part") o (gr_write_0 hr v1 l1) rfl (lw_all_tbl q2013) (lw_all_tbl q1974) (Or.inl q1973) ⟨by decide, by decide⟩ (by decide +kernel) wt_0 rfl dX25_write_46 rfl (rs := fun _ => []) (fun _ => rfl) (fun _ _ => ?_)
    refine r_iinc (j := 4) o dX25_write_49 rfl rfl [(5, vA (mg Γ) v1), (1, vA (mg Γ) l1), (2, vA (mg Γ) l2), (3, vI l3)] [0, 1, 2, 3] rfl ⟨(Nat.ne_of_beq_eq_false rfl), (fun _ => (vA_cat (mg Γ) v1)), ⟨(Nat.ne_of_beq_eq_false rfl), (fun _ => (vA_cat (mg Γ) l1)), ⟨(Nat.ne_of_beq_eq_false rfl), (fun _ => (vA_cat (mg Γ) l2)), ⟨(Nat.ne_of_beq_eq_false rfl), (fun _ => rfl), trivial⟩⟩⟩⟩ ?_
    refine s_goto (tgt := 25) o dX25_write_52 (by decide) ?_
    refine r_to [(1, vA (mg Γ) l1), (2, vA (mg Γ) l2), (3, vI l3), (4, vI (w32 (l4 + 1)))] [2, 3, 4, 0] rfl ?_
    exact s_back (⟨hl3, (w32_R _)⟩) rfl
noncomputable def b_X25_write_25 (rc : Rc) {A : Type} (k_55 : Int → Mo CH A) (l1 : Int) (l2 : Int) (l3 : Int) (l4 : Int) : Mo CH A := Loop (fun x => b_X25_write_25b rc k_55 x.1 x.2.1 x.2.2.1 x.2.2.2) (l1, l2, l3, l4)
theorem sb_X25_write_25 {Γ : Gm} {ts : TS} {d : Nat} {rc : Rc} (hr : GR_write (mg Γ) ts (d + 6) rc) (o : Ok Γ "LazyForge$Made" cX25_write 6 (Option.none : Option Jvm.ClassFile.FieldType) (d + 7)) {A : Type} {K : A → CH → Prop} (k_55 : Int → Mo CH A) (hk_55 : ∀ (l1 : Int), Sx Γ (fun h => (h, ts)) K 55 [(1, vA (mg Γ) l1)] [] (k_55 l1)) (l1 : Int) (l2 : Int) (l3 : Int) (l4 : Int) (hl3 : R32 l3) (hl4 : R32 l4) : Sx Γ (fun h => (h, ts)) K 25 [(1, vA (mg Γ) l1), (2, vA (mg Γ) l2), (3, vI l3), (4, vI l4)] [] (b_X25_write_25 rc k_55 l1 l2 l3 l4) :=
  s_loop okb_X25_write_25 (lvb_X25_write_25 Γ) (fun x hx => sb_X25_write_25b hr o k_55 hk_55 x.1 x.2.1 x.2.2.1 x.2.2.2 hx.1 hx.2) (x := (l1, l2, l3, l4)) ⟨hl3, hl4⟩
noncomputable def b_X25_write (rc : Rc) (l0 : Int) (l1 : Int) : Mo CH Int :=
  bnd (isk 102 l1) fun _ =>
  bnd (c_X2_sign l1 40) fun _ =>
  bnd (gf [125] 5 l0) fun v1 =>
  bnd (isk 102 l1) fun _ =>
  bnd (c_X2_constructor l1 v1) fun _ =>
  bnd (gf [125] 6 l0) fun v2 =>
  bnd (aln v2) fun v3 =>
  b_X25_write_25 rc
    (fun v4 => bnd (isk 102 v4) fun _ =>
  bnd (c_X2_sign v4 41) fun _ =>
  pr 0) l1 v2 v3 0
theorem sb_X25_write (g : gC) (d : Nat) (ts : TS) (rc : Rc) (hr : GR_write g ts (d + 6) rc) (l0 : Int) (l1 : Int) : SF g yX25_write (Cond.code yX25_write cX25_write 6 (Option.none : Option Jvm.ClassFile.FieldType)) (Option.none : Option Jvm.ClassFile.FieldType) (d + 7) [vA g l0, vA g l1] (fun h => (h, ts)) (b_X25_write rc l0 l1) := by
  refine SF.of (lv := [(0, vA g l0), (1, vA g l1)]) (by decide) (wt_A (wt_A wt_0)) rfl (by simp only [la_A, la_I, la_J, la_0]) (fun Γ hg hnm o => ?_)
  subst hg
  have o : Ok Γ "LazyForge$Made" cX25_write 6 (Option.none : Option Jvm.ClassFile.FieldType) (d + 7) := o
  unfold b_X25_write
  refine s_aload_n o dX25_write_0 rfl 1 rfl ?_
  refine s_bipush o dX25_write_1 rfl ?_
  refine s_cvC (d := d + 6) (As := [vI 40]) (st := []) (c := 2) o (sc_X2_sign (mg Γ) (d + 6) ts l1 40 (rCl rfl)) mw_X2_sign rfl (Or.inl (lw_all_tbl q2011)) rfl (lw_all_tbl q1941) (lw_all_tbl q1940) wt_0 rfl dX25_write_3 rfl (rs := fun _ => []) (fun _ => rfl) (fun _ _ => ?_)
  refine s_aload_n o dX25_write_6 rfl 1 rfl ?_
  refine s_aload_n o dX25_write_7 rfl 0 rfl ?_
  refine r_getf vI rfl o cf_X25_constructor (Or.inl (lw_all_tbl q1568)) dX25_write_8 (fun v1 hv1 => ?_)
  refine s_cvC (d := d + 6) (As := [vI v1]) (st := []) (c := 2) o (sc_X2_constructor (mg Γ) (d + 4) ts l1 v1 hv1) mw_X2_constructor rfl (Or.inl (lw_all_tbl q2012)) rfl (lw_all_tbl q1946) (lw_all_tbl q1945) wt_0 rfl dX25_write_11 rfl (rs := fun _ => []) (fun _ => rfl) (fun _ _ => ?_)
  refine s_aload_n o dX25_write_14 rfl 0 rfl ?_
  refine r_getf (vA (mg Γ)) rfl o cf_X25_fields (Or.inl (lw_all_tbl q1569)) dX25_write_15 (fun v2 hv2 => ?_)
  refine r_astore_n o dX25_write_18 rfl rfl ⟨(Nat.ne_of_beq_eq_false rfl), (fun _ => (vA_cat (mg Γ) l0)), ⟨(Nat.ne_of_beq_eq_false rfl), (fun _ => (vA_cat (mg Γ) l1)), trivial⟩⟩ ?_
  refine s_aload_n o dX25_write_19 rfl 0 rfl ?_
  refine s_alen o dX25_write_20 (fun v3 hv3 => ?_)
  refine r_istore_n o dX25_write_21 rfl rfl ⟨(Nat.ne_of_beq_eq_false rfl), (fun _ => (vA_cat (mg Γ) v2)), ⟨(Nat.ne_of_beq_eq_false rfl), (fun _ => (vA_cat (mg Γ) l0)), ⟨(Nat.ne_of_beq_eq_false rfl), (fun _ => (vA_cat (mg Γ) l1)), trivial⟩⟩⟩ ?_
  refine s_iconst o dX25_write_22 ?_
  refine r_istore o dX25_write_23 rfl ⟨(Nat.ne_of_beq_eq_false rfl), (fun _ => rfl), ⟨(Nat.ne_of_beq_eq_false rfl), (fun _ => (vA_cat (mg Γ) v2)), ⟨(Nat.ne_of_beq_eq_false rfl), (fun _ => (vA_cat (mg Γ) l0)), ⟨(Nat.ne_of_beq_eq_false rfl), (fun _ => (vA_cat (mg Γ) l1)), trivial⟩⟩⟩⟩ ?_
  refine r_to [(1, vA (mg Γ) l1), (2, vA (mg Γ) v2), (3, vI v3), (4, vI 0)] [4, 2, 1, 0] rfl ?_
  refine sb_X25_write_25 hr o _ ?_ l1 v2 v3 0 (rN hv3) (r32 rfl)
  · intro v4
    refine s_aload_n o dX25_write_55 rfl 0 rfl ?_
    refine s_bipush o dX25_write_56 rfl ?_
    refine s_cvC (d := d + 6) (As := [vI 41]) (st := []) (c := 2) o (sc_X2_sign (mg Γ) (d + 6) ts v4 41 (rCl rfl)) mw_X2_sign rfl (Or.inl (lw_all_tbl q2011)) rfl (lw_all_tbl q1941) (lw_all_tbl q1940) wt_0 rfl dX25_write_58 rfl (rs := fun _ => []) (fun _ => rfl) (fun _ _ => ?_)
    exact s_vret o rfl dX25_write_61 (fun _ hh => hh)
noncomputable def v_X4_write_b (rc : Rc) (l0 : Int) (l1 : Int) : Mo CH Int := dsp l0 [([106, 107, 108, 109, 110], c_X5_write l0 l1), ([118], b_X18_write rc l0 l1), ([119], c_X19_write l0 l1), ([120], c_X20_write l0 l1), ([121], b_X21_write rc l0 l1), ([122], b_X22_write rc l0 l1), ([123], b_X23_write rc l0 l1), ([124], c_X24_write l0 l1), ([125], b_X25_write rc l0 l1), ([126], c_X26_write l0 l1)]
theorem sv_X4_write_b (g : gC) (d : Nat) (ts : TS) (rc : Rc) (hr : GR_write g ts (d + 6) rc) (l0 : Int) (l1 : Int) : VR g ts ⟨"LazyForge$Part", "write", "(LLazyForge$Writer;)V"⟩ none 1 (d + 7) l0 [vA g l1] (v_X4_write_b rc l0 l1) := (VR.cons (x0 := ⟨"LazyForge$Part", "write", "(LLazyForge$Writer;)V"⟩) ⟨⟨6, _, rfl, rfl, (lw_all_tbl q2056)⟩, ⟨⟨7, _, rfl, rfl, (lw_all_tbl q2050)⟩, ⟨⟨8, _, rfl, rfl, (lw_all_tbl q1975)⟩, ⟨⟨9, _, rfl, rfl, (lw_all_tbl q2047)⟩, ⟨⟨10, _, rfl, rfl, (lw_all_tbl q2049)⟩, trivial⟩⟩⟩⟩⟩ (lw_all_tbl q1976) mw_X5_write (sc_X5_write g (d + 7) ts l0 l1) (VR.cons (x0 := ⟨"LazyForge$Part", "write", "(LLazyForge$Writer;)V"⟩) ⟨⟨18, _, rfl, rfl, (lw_all_tbl q2051)⟩, trivial⟩ (lw_all_tbl q1992) mw_X18_write (sb_X18_write g d ts rc hr l0 l1) (VR.cons (x0 := ⟨"LazyForge$Part", "write", "(LLazyForge$Writer;)V"⟩) ⟨⟨19, _, rfl, rfl, (lw_all_tbl q2054)⟩, trivial⟩ (lw_all_tbl q2014) mw_X19_write (sc_X19_write g (d + 1) ts l0 l1) (VR.cons (x0 := ⟨"LazyForge$Part", "write", "(LLazyForge$Writer;)V"⟩) ⟨⟨20, _, rfl, rfl, (lw_all_tbl q2057)⟩, trivial⟩ (lw_all_tbl q2021) mw_X20_write (sc_X20_write g (d + 4) ts l0 l1) (VR.cons (x0 := ⟨"LazyForge$Part", "write", "(LLazyForge$Writer;)V"⟩) ⟨⟨21, _, rfl, rfl, (lw_all_tbl q1978)⟩, trivial⟩ (lw_all_tbl q1979) mw_X21_write (sb_X21_write g d ts rc hr l0 l1) (VR.cons (x0 := ⟨"LazyForge$Part", "write", "(LLazyForge$Writer;)V"⟩) ⟨⟨22, _, rfl, rfl, (lw_all_tbl q2046)⟩, trivial⟩ (lw_all_tbl q1983) mw_X22_write (sb_X22_write g d ts rc hr l0 l1) (VR.cons (x0 := ⟨"LazyForge$Part", "write", "(LLazyForge$Writer;)V"⟩) ⟨⟨23, _, rfl, rfl, (lw_all_tbl q2055)⟩, trivial⟩ (lw_all_tbl q2017) mw_X23_write (sb_X23_write g d ts rc hr l0 l1) (VR.cons (x0 := ⟨"LazyForge$Part", "write", "(LLazyForge$Writer;)V"⟩) ⟨⟨24, _, rfl, rfl, (lw_all_tbl q2052)⟩, trivial⟩ (lw_all_tbl q2000) mw_X24_write (sc_X24_write g (d + 3) ts l0 l1) (VR.cons (x0 := ⟨"LazyForge$Part", "write", "(LLazyForge$Writer;)V"⟩) ⟨⟨25, _, rfl, rfl, (lw_all_tbl q2053)⟩, trivial⟩ (lw_all_tbl q2009) mw_X25_write (sb_X25_write g d ts rc hr l0 l1) (VR.cons (x0 := ⟨"LazyForge$Part", "write", "(LLazyForge$Writer;)V"⟩) ⟨⟨26, _, rfl, rfl, (lw_all_tbl q2048)⟩, trivial⟩ (lw_all_tbl q1988) mw_X26_write (sc_X26_write g (d + 2) ts l0 l1) VR.nil))))))))))
noncomputable def G_write (rc : Rc) : Rc := fun j a0 a1 a2 a3 a4 => match j with
  | 0 => v_X4_write_b rc a0 a1
  | _ => no
noncomputable def R_write : Nat → Rc
  | 0 => fun _ _ _ _ _ _ => no
  | n + 1 => G_write (R_write n)
theorem G_write_ok (g : gC) (ts : TS) (d : Nat) (rc : Rc) (hr : GR_write g ts (d + 6) rc) : GR_write g ts (d + 7) (G_write rc) := (fun l0 l1 => sv_X4_write_b g d ts rc hr l0 l1)
theorem R_write_ok (g : gC) (ts : TS) : ∀ n d, GR_write g ts (d + 6 + n) (R_write n)
  | 0, d => (fun _ _ _ _ _ e => by cases e)
  | n + 1, d => by
    have h := R_write_ok g ts n d
    rw [show d + 6 + n = (d + n) + 6 by omega] at h
    have h := G_write_ok g ts _ _ h
    rw [show d + 6 + (n + 1) = (d + n) + 7 by omega]
    exact h
noncomputable def v_X4_write (l0 : Int) (l1 : Int) : Mo CH Int := R_write 200 0 l0 l1 0 0 0
theorem sv_X4_write (g : gC) (d : Nat) (ts : TS) (l0 : Int) (l1 : Int) : VR g ts ⟨"LazyForge$Part", "write", "(LLazyForge$Writer;)V"⟩ none 1 (d + 206) l0 [vA g l1] (v_X4_write l0 l1) := by
  have h := R_write_ok g ts 200 d
  rw [Nat.add_assoc] at h
  exact gr_write_0 h l0 l1
noncomputable def v_X18_mayWait (l0 : Int) (l1 : Int) (l2 : Int) : Mo CH Int := dsp l0 [([118], c_X4_mayWait l0 l1 l2)]
theorem sv_X18_mayWait (g : gC) (d : Nat) (ts : TS) (l0 : Int) (l1 : Int) (l2 : Int) : VR g ts ⟨"LazyForge$Let", "mayWait", "(LLazyForge$Program;LLazyForge$Function;)V"⟩ none 2 (d + 201) l0 [vA g l1, vA g l2] (v_X18_mayWait l0 l1 l2) := (VR.cons (x0 := ⟨"LazyForge$Let", "mayWait", "(LLazyForge$Program;LLazyForge$Function;)V"⟩) ⟨⟨18, _, rfl, rfl, (lw_all_tbl q1864)⟩, trivial⟩ (lw_all_tbl q1762) mw_X4_mayWait (sc_X4_mayWait g (d + 0) ts l0 l1 l2) VR.nil)
noncomputable def v_X4_least (l0 : Int) (l1 : Int) : Mo CH Int := dsp l0 [([106, 107, 108, 109, 110, 118, 119, 120, 121, 122, 123, 124, 125, 126], c_X4_least l0 l1)]
theorem sv_X4_least (g : gC) (d : Nat) (ts : TS) (l0 : Int) (l1 : Int) : VR g ts ⟨"LazyForge$Part", "least", "([Z)Z"⟩ (some .boolean) 1 (d + 204) l0 [vA g l1] (v_X4_least l0 l1) := (VR.cons (x0 := ⟨"LazyForge$Part", "least", "([Z)Z"⟩) ⟨⟨6, _, rfl, rfl, (lw_all_tbl q1657)⟩, ⟨⟨7, _, rfl, rfl, (lw_all_tbl q1651)⟩, ⟨⟨8, _, rfl, rfl, (lw_all_tbl q1645)⟩, ⟨⟨9, _, rfl, rfl, (lw_all_tbl q1648)⟩, ⟨⟨10, _, rfl, rfl, (lw_all_tbl q1650)⟩, ⟨⟨18, _, rfl, rfl, (lw_all_tbl q1652)⟩, ⟨⟨19, _, rfl, rfl, (lw_all_tbl q1655)⟩, ⟨⟨20, _, rfl, rfl, (lw_all_tbl q1658)⟩, ⟨⟨21, _, rfl, rfl, (lw_all_tbl q1646)⟩, ⟨⟨22, _, rfl, rfl, (lw_all_tbl q1647)⟩, ⟨⟨23, _, rfl, rfl, (lw_all_tbl q1656)⟩, ⟨⟨24, _, rfl, rfl, (lw_all_tbl q1653)⟩, ⟨⟨25, _, rfl, rfl, (lw_all_tbl q1654)⟩, ⟨⟨26, _, rfl, rfl, (lw_all_tbl q1649)⟩, trivial⟩⟩⟩⟩⟩⟩⟩⟩⟩⟩⟩⟩⟩⟩ (lw_all_tbl q1643) mw_X4_least (sc_X4_least g (d + 0) ts l0 l1) VR.nil)
theorem dX19_prepare_0 : decode cX19_prepare 0 = .ok (.return_, 1) := by decide +kernel
theorem mw_X19_prepare : MW yX19_prepare (Cond.code yX19_prepare cX19_prepare 3 (Option.none : Option Jvm.ClassFile.FieldType)) cX19_prepare 3 (Option.none : Option Jvm.ClassFile.FieldType) 2 := ⟨rfl, ⟨(lw_all_tbl q1850), rfl, (lw_all_tbl q199)⟩, rfl, ⟨by decide, by decide⟩, by decide +kernel⟩
noncomputable def c_X19_prepare (l0 : Int) (l1 : Int) (l2 : Int) : Mo CH Int :=
  pr 0
theorem sc_X19_prepare (g : gC) (d : Nat) (ts : TS) (l0 : Int) (l1 : Int) (l2 : Int) : SF g yX19_prepare (Cond.code yX19_prepare cX19_prepare 3 (Option.none : Option Jvm.ClassFile.FieldType)) (Option.none : Option Jvm.ClassFile.FieldType) (d + 0) [vA g l0, vA g l1, vA g l2] (fun h => (h, ts)) (c_X19_prepare l0 l1 l2) := by
  refine SF.of (lv := [(0, vA g l0), (1, vA g l1), (2, vA g l2)]) (by decide) (wt_A (wt_A (wt_A wt_0))) rfl (by simp only [la_A, la_I, la_J, la_0]) (fun Γ hg hnm o => ?_)
  subst hg
  have o : Ok Γ "LazyForge$Named" cX19_prepare 3 (Option.none : Option Jvm.ClassFile.FieldType) (d + 0) := o
  unfold c_X19_prepare
  exact s_vret o rfl dX19_prepare_0 (fun _ hh => hh)
noncomputable def v_X20_mayWait (l0 : Int) (l1 : Int) (l2 : Int) : Mo CH Int := dsp l0 [([120], c_X4_mayWait l0 l1 l2)]
theorem sv_X20_mayWait (g : gC) (d : Nat) (ts : TS) (l0 : Int) (l1 : Int) (l2 : Int) : VR g ts ⟨"LazyForge$Use", "mayWait", "(LLazyForge$Program;LLazyForge$Function;)V"⟩ none 2 (d + 201) l0 [vA g l1, vA g l2] (v_X20_mayWait l0 l1 l2) := (VR.cons (x0 := ⟨"LazyForge$Use", "mayWait", "(LLazyForge$Program;LLazyForge$Function;)V"⟩) ⟨⟨20, _, rfl, rfl, (lw_all_tbl q1858)⟩, trivial⟩ (lw_all_tbl q1762) mw_X4_mayWait (sc_X4_mayWait g (d + 0) ts l0 l1 l2) VR.nil)
theorem dX20_prepare_0 : decode cX20_prepare 0 = .ok (.aload_n 0, 1) := by decide +kernel
theorem dX20_prepare_1 : decode cX20_prepare 1 = .ok (.aload_n 1, 1) := by decide +kernel
theorem dX20_prepare_2 : decode cX20_prepare 2 = .ok (.aload_n 2, 1) := by decide +kernel
theorem dX20_prepare_3 : decode cX20_prepare 3 = .ok (.invokevirtual 42, 3) := by decide +kernel
theorem dX20_prepare_6 : decode cX20_prepare 6 = .ok (.return_, 1) := by decide +kernel
theorem mw_X20_prepare : MW yX20_prepare (Cond.code yX20_prepare cX20_prepare 3 (Option.none : Option Jvm.ClassFile.FieldType)) cX20_prepare 3 (Option.none : Option Jvm.ClassFile.FieldType) 2 := ⟨rfl, ⟨(lw_all_tbl q1855), rfl, (lw_all_tbl q200)⟩, rfl, ⟨by decide, by decide⟩, by decide +kernel⟩
noncomputable def c_X20_prepare (l0 : Int) (l1 : Int) (l2 : Int) : Mo CH Int :=
  bnd (v_X20_mayWait l0 l1 l2) fun _ =>
  pr 0
theorem sc_X20_prepare (g : gC) (d : Nat) (ts : TS) (l0 : Int) (l1 : Int) (l2 : Int) : SF g yX20_prepare (Cond.code yX20_prepare cX20_prepare 3 (Option.none : Option Jvm.ClassFile.FieldType)) (Option.none : Option Jvm.ClassFile.FieldType) (d + 202) [vA g l0, vA g l1, vA g l2] (fun h => (h, ts)) (c_X20_prepare l0 l1 l2) := by
  refine SF.of (lv := [(0, vA g l0), (1, vA g l1), (2, vA g l2)]) (by decide) (wt_A (wt_A (wt_A wt_0))) rfl (by simp only [la_A, la_I, la_J, la_0]) (fun Γ hg hnm o => ?_)
  subst hg
  have o : Ok Γ "LazyForge$Use" cX20_prepare 3 (Option.none : Option Jvm.ClassFile.FieldType) (d + 202) := o
  unfold c_X20_prepare
  refine s_aload_n o dX20_prepare_0 rfl 0 rfl ?_
  refine s_aload_n o dX20_prepare_1 rfl 1 rfl ?_
  refine s_aload_n o dX20_prepare_2 rfl 2 rfl ?_
  refine s_cu (d := d + 201) (As := [vA (mg Γ) l1, vA (mg Γ) l2]) (st := []) (owner := "LazyForge$Part") o (sv_X20_mayWait (mg Γ) d ts l0 l1 l2) rfl (lw_all_tbl q1856) (lw_all_tbl q1857) (Or.inl q1760) ⟨by decide, by decide⟩ (by decide +kernel) wt_0 rfl dX20_prepare_3 rfl (rs := fun _ => []) (fun _ => rfl) (fun _ _ => ?_)
  exact s_vret o rfl dX20_prepare_6 (fun _ hh => hh)
noncomputable def v_X21_mayWait (l0 : Int) (l1 : Int) (l2 : Int) : Mo CH Int := dsp l0 [([121], c_X4_mayWait l0 l1 l2)]
theorem sv_X21_mayWait (g : gC) (d : Nat) (ts : TS) (l0 : Int) (l1 : Int) (l2 : Int) : VR g ts ⟨"LazyForge$Apply", "mayWait", "(LLazyForge$Program;LLazyForge$Function;)V"⟩ none 2 (d + 201) l0 [vA g l1, vA g l2] (v_X21_mayWait l0 l1 l2) := (VR.cons (x0 := ⟨"LazyForge$Apply", "mayWait", "(LLazyForge$Program;LLazyForge$Function;)V"⟩) ⟨⟨21, _, rfl, rfl, (lw_all_tbl q1880)⟩, trivial⟩ (lw_all_tbl q1762) mw_X4_mayWait (sc_X4_mayWait g (d + 0) ts l0 l1 l2) VR.nil)
noncomputable def v_X22_mayWait (l0 : Int) (l1 : Int) (l2 : Int) : Mo CH Int := dsp l0 [([122], c_X4_mayWait l0 l1 l2)]
theorem sv_X22_mayWait (g : gC) (d : Nat) (ts : TS) (l0 : Int) (l1 : Int) (l2 : Int) : VR g ts ⟨"LazyForge$Case", "mayWait", "(LLazyForge$Program;LLazyForge$Function;)V"⟩ none 2 (d + 201) l0 [vA g l1, vA g l2] (v_X22_mayWait l0 l1 l2) := (VR.cons (x0 := ⟨"LazyForge$Case", "mayWait", "(LLazyForge$Program;LLazyForge$Function;)V"⟩) ⟨⟨22, _, rfl, rfl, (lw_all_tbl q1868)⟩, trivial⟩ (lw_all_tbl q1762) mw_X4_mayWait (sc_X4_mayWait g (d + 0) ts l0 l1 l2) VR.nil)
noncomputable def v_X23_mayWait (l0 : Int) (l1 : Int) (l2 : Int) : Mo CH Int := dsp l0 [([123], c_X4_mayWait l0 l1 l2)]
theorem sv_X23_mayWait (g : gC) (d : Nat) (ts : TS) (l0 : Int) (l1 : Int) (l2 : Int) : VR g ts ⟨"LazyForge$Sign", "mayWait", "(LLazyForge$Program;LLazyForge$Function;)V"⟩ none 2 (d + 201) l0 [vA g l1, vA g l2] (v_X23_mayWait l0 l1 l2) := (VR.cons (x0 := ⟨"LazyForge$Sign", "mayWait", "(LLazyForge$Program;LLazyForge$Function;)V"⟩) ⟨⟨23, _, rfl, rfl, (lw_all_tbl q1861)⟩, trivial⟩ (lw_all_tbl q1762) mw_X4_mayWait (sc_X4_mayWait g (d + 0) ts l0 l1 l2) VR.nil)
theorem dX24_prepare_0 : decode cX24_prepare 0 = .ok (.return_, 1) := by decide +kernel
theorem mw_X24_prepare : MW yX24_prepare (Cond.code yX24_prepare cX24_prepare 3 (Option.none : Option Jvm.ClassFile.FieldType)) cX24_prepare 3 (Option.none : Option Jvm.ClassFile.FieldType) 2 := ⟨rfl, ⟨(lw_all_tbl q1845), rfl, (lw_all_tbl q204)⟩, rfl, ⟨by decide, by decide⟩, by decide +kernel⟩
noncomputable def c_X24_prepare (l0 : Int) (l1 : Int) (l2 : Int) : Mo CH Int :=
  pr 0
theorem sc_X24_prepare (g : gC) (d : Nat) (ts : TS) (l0 : Int) (l1 : Int) (l2 : Int) : SF g yX24_prepare (Cond.code yX24_prepare cX24_prepare 3 (Option.none : Option Jvm.ClassFile.FieldType)) (Option.none : Option Jvm.ClassFile.FieldType) (d + 0) [vA g l0, vA g l1, vA g l2] (fun h => (h, ts)) (c_X24_prepare l0 l1 l2) := by
  refine SF.of (lv := [(0, vA g l0), (1, vA g l1), (2, vA g l2)]) (by decide) (wt_A (wt_A (wt_A wt_0))) rfl (by simp only [la_A, la_I, la_J, la_0]) (fun Γ hg hnm o => ?_)
  subst hg
  have o : Ok Γ "LazyForge$Literal" cX24_prepare 3 (Option.none : Option Jvm.ClassFile.FieldType) (d + 0) := o
  unfold c_X24_prepare
  exact s_vret o rfl dX24_prepare_0 (fun _ hh => hh)
theorem dX23_prepare_0 : decode cX23_prepare 0 = .ok (.aload_n 0, 1) := by decide +kernel
theorem dX23_prepare_1 : decode cX23_prepare 1 = .ok (.getfield 13, 3) := by decide +kernel
theorem dX23_prepare_4 : decode cX23_prepare 4 = .ok (.aload_n 1, 1) := by decide +kernel
theorem dX23_prepare_5 : decode cX23_prepare 5 = .ok (.aload_n 2, 1) := by decide +kernel
theorem dX23_prepare_6 : decode cX23_prepare 6 = .ok (.invokevirtual 75, 3) := by decide +kernel
theorem dX23_prepare_9 : decode cX23_prepare 9 = .ok (.aload_n 0, 1) := by decide +kernel
theorem dX23_prepare_10 : decode cX23_prepare 10 = .ok (.getfield 17, 3) := by decide +kernel
theorem dX23_prepare_13 : decode cX23_prepare 13 = .ok (.aload_n 1, 1) := by decide +kernel
theorem dX23_prepare_14 : decode cX23_prepare 14 = .ok (.aload_n 2, 1) := by decide +kernel
theorem dX23_prepare_15 : decode cX23_prepare 15 = .ok (.invokevirtual 75, 3) := by decide +kernel
theorem dX23_prepare_18 : decode cX23_prepare 18 = .ok (.aload_n 0, 1) := by decide +kernel
theorem dX23_prepare_19 : decode cX23_prepare 19 = .ok (.aload_n 1, 1) := by decide +kernel
theorem dX23_prepare_20 : decode cX23_prepare 20 = .ok (.aload_n 2, 1) := by decide +kernel
theorem dX23_prepare_21 : decode cX23_prepare 21 = .ok (.invokevirtual 79, 3) := by decide +kernel
theorem dX23_prepare_24 : decode cX23_prepare 24 = .ok (.return_, 1) := by decide +kernel
theorem mw_X23_prepare : MW yX23_prepare (Cond.code yX23_prepare cX23_prepare 3 (Option.none : Option Jvm.ClassFile.FieldType)) cX23_prepare 3 (Option.none : Option Jvm.ClassFile.FieldType) 2 := ⟨rfl, ⟨(lw_all_tbl q1852), rfl, (lw_all_tbl q203)⟩, rfl, ⟨by decide, by decide⟩, by decide +kernel⟩
theorem dX22_prepare_0 : decode cX22_prepare 0 = .ok (.aload_n 0, 1) := by decide +kernel
theorem dX22_prepare_1 : decode cX22_prepare 1 = .ok (.getfield 9, 3) := by decide +kernel
theorem dX22_prepare_4 : decode cX22_prepare 4 = .ok (.aload_n 1, 1) := by decide +kernel
theorem dX22_prepare_5 : decode cX22_prepare 5 = .ok (.aload_n 2, 1) := by decide +kernel
theorem dX22_prepare_6 : decode cX22_prepare 6 = .ok (.invokevirtual 134, 3) := by decide +kernel
theorem dX22_prepare_9 : decode cX22_prepare 9 = .ok (.aload_n 0, 1) := by decide +kernel
theorem dX22_prepare_10 : decode cX22_prepare 10 = .ok (.getfield 26, 3) := by decide +kernel
theorem dX22_prepare_13 : decode cX22_prepare 13 = .ok (.astore_n 3, 1) := by decide +kernel
theorem dX22_prepare_14 : decode cX22_prepare 14 = .ok (.aload_n 3, 1) := by decide +kernel
theorem dX22_prepare_15 : decode cX22_prepare 15 = .ok (.arraylength, 1) := by decide +kernel
theorem dX22_prepare_16 : decode cX22_prepare 16 = .ok (.istore 4, 2) := by decide +kernel
theorem dX22_prepare_18 : decode cX22_prepare 18 = .ok (.iconst 0, 1) := by decide +kernel
theorem dX22_prepare_19 : decode cX22_prepare 19 = .ok (.istore 5, 2) := by decide +kernel
theorem dX22_prepare_21 : decode cX22_prepare 21 = .ok (.iload 5, 2) := by decide +kernel
theorem dX22_prepare_23 : decode cX22_prepare 23 = .ok (.iload 4, 2) := by decide +kernel
theorem dX22_prepare_25 : decode cX22_prepare 25 = .ok (.if_icmp .ge 22, 3) := by decide +kernel
theorem dX22_prepare_28 : decode cX22_prepare 28 = .ok (.aload_n 3, 1) := by decide +kernel
theorem dX22_prepare_29 : decode cX22_prepare 29 = .ok (.iload 5, 2) := by decide +kernel
theorem dX22_prepare_31 : decode cX22_prepare 31 = .ok (.aaload, 1) := by decide +kernel
theorem dX22_prepare_32 : decode cX22_prepare 32 = .ok (.astore 6, 2) := by decide +kernel
theorem dX22_prepare_34 : decode cX22_prepare 34 = .ok (.aload 6, 2) := by decide +kernel
theorem dX22_prepare_36 : decode cX22_prepare 36 = .ok (.aload_n 1, 1) := by decide +kernel
theorem dX22_prepare_37 : decode cX22_prepare 37 = .ok (.aload_n 2, 1) := by decide +kernel
theorem dX22_prepare_38 : decode cX22_prepare 38 = .ok (.invokevirtual 134, 3) := by decide +kernel
theorem dX22_prepare_41 : decode cX22_prepare 41 = .ok (.iinc 5 1, 3) := by decide +kernel
theorem dX22_prepare_44 : decode cX22_prepare 44 = .ok (.goto (-23), 3) := by decide +kernel
theorem dX22_prepare_47 : decode cX22_prepare 47 = .ok (.aload_n 0, 1) := by decide +kernel
theorem dX22_prepare_48 : decode cX22_prepare 48 = .ok (.aload_n 1, 1) := by decide +kernel
theorem dX22_prepare_49 : decode cX22_prepare 49 = .ok (.aload_n 2, 1) := by decide +kernel
theorem dX22_prepare_50 : decode cX22_prepare 50 = .ok (.invokevirtual 138, 3) := by decide +kernel
theorem dX22_prepare_53 : decode cX22_prepare 53 = .ok (.return_, 1) := by decide +kernel
theorem mw_X22_prepare : MW yX22_prepare (Cond.code yX22_prepare cX22_prepare 7 (Option.none : Option Jvm.ClassFile.FieldType)) cX22_prepare 7 (Option.none : Option Jvm.ClassFile.FieldType) 2 := ⟨rfl, ⟨(lw_all_tbl q1754), rfl, (lw_all_tbl q202)⟩, rfl, ⟨by decide, by decide⟩, by decide +kernel⟩
theorem dX21_prepare_0 : decode cX21_prepare 0 = .ok (.aload_n 0, 1) := by decide +kernel
theorem dX21_prepare_1 : decode cX21_prepare 1 = .ok (.getfield 9, 3) := by decide +kernel
theorem dX21_prepare_4 : decode cX21_prepare 4 = .ok (.aload_n 1, 1) := by decide +kernel
theorem dX21_prepare_5 : decode cX21_prepare 5 = .ok (.aload_n 2, 1) := by decide +kernel
theorem dX21_prepare_6 : decode cX21_prepare 6 = .ok (.invokevirtual 134, 3) := by decide +kernel
theorem dX21_prepare_9 : decode cX21_prepare 9 = .ok (.aload_n 0, 1) := by decide +kernel
theorem dX21_prepare_10 : decode cX21_prepare 10 = .ok (.getfield 15, 3) := by decide +kernel
theorem dX21_prepare_13 : decode cX21_prepare 13 = .ok (.astore_n 3, 1) := by decide +kernel
theorem dX21_prepare_14 : decode cX21_prepare 14 = .ok (.aload_n 3, 1) := by decide +kernel
theorem dX21_prepare_15 : decode cX21_prepare 15 = .ok (.arraylength, 1) := by decide +kernel
theorem dX21_prepare_16 : decode cX21_prepare 16 = .ok (.istore 4, 2) := by decide +kernel
theorem dX21_prepare_18 : decode cX21_prepare 18 = .ok (.iconst 0, 1) := by decide +kernel
theorem dX21_prepare_19 : decode cX21_prepare 19 = .ok (.istore 5, 2) := by decide +kernel
theorem dX21_prepare_21 : decode cX21_prepare 21 = .ok (.iload 5, 2) := by decide +kernel
theorem dX21_prepare_23 : decode cX21_prepare 23 = .ok (.iload 4, 2) := by decide +kernel
theorem dX21_prepare_25 : decode cX21_prepare 25 = .ok (.if_icmp .ge 22, 3) := by decide +kernel
theorem dX21_prepare_28 : decode cX21_prepare 28 = .ok (.aload_n 3, 1) := by decide +kernel
theorem dX21_prepare_29 : decode cX21_prepare 29 = .ok (.iload 5, 2) := by decide +kernel
theorem dX21_prepare_31 : decode cX21_prepare 31 = .ok (.aaload, 1) := by decide +kernel
theorem dX21_prepare_32 : decode cX21_prepare 32 = .ok (.astore 6, 2) := by decide +kernel
theorem dX21_prepare_34 : decode cX21_prepare 34 = .ok (.aload 6, 2) := by decide +kernel
theorem dX21_prepare_36 : decode cX21_prepare 36 = .ok (.aload_n 1, 1) := by decide +kernel
theorem dX21_prepare_37 : decode cX21_prepare 37 = .ok (.aload_n 2, 1) := by decide +kernel
theorem dX21_prepare_38 : decode cX21_prepare 38 = .ok (.invokevirtual 134, 3) := by decide +kernel
theorem dX21_prepare_41 : decode cX21_prepare 41 = .ok (.iinc 5 1, 3) := by decide +kernel
theorem dX21_prepare_44 : decode cX21_prepare 44 = .ok (.goto (-23), 3) := by decide +kernel
theorem dX21_prepare_47 : decode cX21_prepare 47 = .ok (.aload_n 0, 1) := by decide +kernel
theorem dX21_prepare_48 : decode cX21_prepare 48 = .ok (.invokevirtual 60, 3) := by decide +kernel
theorem dX21_prepare_51 : decode cX21_prepare 51 = .ok (.ifCond .ne 9, 3) := by decide +kernel
theorem dX21_prepare_54 : decode cX21_prepare 54 = .ok (.aload_n 0, 1) := by decide +kernel
theorem dX21_prepare_55 : decode cX21_prepare 55 = .ok (.aload_n 1, 1) := by decide +kernel
theorem dX21_prepare_56 : decode cX21_prepare 56 = .ok (.aload_n 2, 1) := by decide +kernel
theorem dX21_prepare_57 : decode cX21_prepare 57 = .ok (.invokevirtual 138, 3) := by decide +kernel
theorem dX21_prepare_60 : decode cX21_prepare 60 = .ok (.return_, 1) := by decide +kernel
theorem mw_X21_prepare : MW yX21_prepare (Cond.code yX21_prepare cX21_prepare 7 (Option.none : Option Jvm.ClassFile.FieldType)) cX21_prepare 7 (Option.none : Option Jvm.ClassFile.FieldType) 2 := ⟨rfl, ⟨(lw_all_tbl q1751), rfl, (lw_all_tbl q201)⟩, rfl, ⟨by decide, by decide⟩, by decide +kernel⟩
theorem dX18_prepare_0 : decode cX18_prepare 0 = .ok (.aload_n 0, 1) := by decide +kernel
theorem dX18_prepare_1 : decode cX18_prepare 1 = .ok (.getfield 13, 3) := by decide +kernel
theorem dX18_prepare_4 : decode cX18_prepare 4 = .ok (.astore_n 3, 1) := by decide +kernel
theorem dX18_prepare_5 : decode cX18_prepare 5 = .ok (.aload_n 3, 1) := by decide +kernel
theorem dX18_prepare_6 : decode cX18_prepare 6 = .ok (.arraylength, 1) := by decide +kernel
theorem dX18_prepare_7 : decode cX18_prepare 7 = .ok (.istore 4, 2) := by decide +kernel
theorem dX18_prepare_9 : decode cX18_prepare 9 = .ok (.iconst 0, 1) := by decide +kernel
theorem dX18_prepare_10 : decode cX18_prepare 10 = .ok (.istore 5, 2) := by decide +kernel
theorem dX18_prepare_12 : decode cX18_prepare 12 = .ok (.iload 5, 2) := by decide +kernel
theorem dX18_prepare_14 : decode cX18_prepare 14 = .ok (.iload 4, 2) := by decide +kernel
theorem dX18_prepare_16 : decode cX18_prepare 16 = .ok (.if_icmp .ge 22, 3) := by decide +kernel
theorem dX18_prepare_19 : decode cX18_prepare 19 = .ok (.aload_n 3, 1) := by decide +kernel
theorem dX18_prepare_20 : decode cX18_prepare 20 = .ok (.iload 5, 2) := by decide +kernel
theorem dX18_prepare_22 : decode cX18_prepare 22 = .ok (.aaload, 1) := by decide +kernel
theorem dX18_prepare_23 : decode cX18_prepare 23 = .ok (.astore 6, 2) := by decide +kernel
theorem dX18_prepare_25 : decode cX18_prepare 25 = .ok (.aload 6, 2) := by decide +kernel
theorem dX18_prepare_27 : decode cX18_prepare 27 = .ok (.aload_n 1, 1) := by decide +kernel
theorem dX18_prepare_28 : decode cX18_prepare 28 = .ok (.aload_n 2, 1) := by decide +kernel
theorem dX18_prepare_29 : decode cX18_prepare 29 = .ok (.invokevirtual 143, 3) := by decide +kernel
theorem dX18_prepare_32 : decode cX18_prepare 32 = .ok (.iinc 5 1, 3) := by decide +kernel
theorem dX18_prepare_35 : decode cX18_prepare 35 = .ok (.goto (-23), 3) := by decide +kernel
theorem dX18_prepare_38 : decode cX18_prepare 38 = .ok (.aload_n 0, 1) := by decide +kernel
theorem dX18_prepare_39 : decode cX18_prepare 39 = .ok (.getfield 17, 3) := by decide +kernel
theorem dX18_prepare_42 : decode cX18_prepare 42 = .ok (.aload_n 1, 1) := by decide +kernel
theorem dX18_prepare_43 : decode cX18_prepare 43 = .ok (.aload_n 2, 1) := by decide +kernel
theorem dX18_prepare_44 : decode cX18_prepare 44 = .ok (.invokevirtual 143, 3) := by decide +kernel
theorem dX18_prepare_47 : decode cX18_prepare 47 = .ok (.aload_n 0, 1) := by decide +kernel
theorem dX18_prepare_48 : decode cX18_prepare 48 = .ok (.aload_n 1, 1) := by decide +kernel
theorem dX18_prepare_49 : decode cX18_prepare 49 = .ok (.aload_n 2, 1) := by decide +kernel
theorem dX18_prepare_50 : decode cX18_prepare 50 = .ok (.invokevirtual 147, 3) := by decide +kernel
theorem dX18_prepare_53 : decode cX18_prepare 53 = .ok (.aload_n 0, 1) := by decide +kernel
theorem dX18_prepare_54 : decode cX18_prepare 54 = .ok (.getfield 7, 3) := by decide +kernel
theorem dX18_prepare_57 : decode cX18_prepare 57 = .ok (.arraylength, 1) := by decide +kernel
theorem dX18_prepare_58 : decode cX18_prepare 58 = .ok (.iconst 1, 1) := by decide +kernel
theorem dX18_prepare_59 : decode cX18_prepare 59 = .ok (.if_icmp .le 4, 3) := by decide +kernel
theorem dX18_prepare_62 : decode cX18_prepare 62 = .ok (.return_, 1) := by decide +kernel
theorem dX18_prepare_63 : decode cX18_prepare 63 = .ok (.aload_n 1, 1) := by decide +kernel
theorem dX18_prepare_64 : decode cX18_prepare 64 = .ok (.getfield 150, 3) := by decide +kernel
theorem dX18_prepare_67 : decode cX18_prepare 67 = .ok (.astore_n 3, 1) := by decide +kernel
theorem dX18_prepare_68 : decode cX18_prepare 68 = .ok (.iconst 0, 1) := by decide +kernel
theorem dX18_prepare_69 : decode cX18_prepare 69 = .ok (.istore 4, 2) := by decide +kernel
theorem dX18_prepare_71 : decode cX18_prepare 71 = .ok (.iload 4, 2) := by decide +kernel
theorem dX18_prepare_73 : decode cX18_prepare 73 = .ok (.aload_n 3, 1) := by decide +kernel
theorem dX18_prepare_74 : decode cX18_prepare 74 = .ok (.arraylength, 1) := by decide +kernel
theorem dX18_prepare_75 : decode cX18_prepare 75 = .ok (.if_icmp .ge 14, 3) := by decide +kernel
theorem dX18_prepare_78 : decode cX18_prepare 78 = .ok (.aload_n 3, 1) := by decide +kernel
theorem dX18_prepare_79 : decode cX18_prepare 79 = .ok (.iload 4, 2) := by decide +kernel
theorem dX18_prepare_81 : decode cX18_prepare 81 = .ok (.iconst 0, 1) := by decide +kernel
theorem dX18_prepare_82 : decode cX18_prepare 82 = .ok (.bastore, 1) := by decide +kernel
theorem dX18_prepare_83 : decode cX18_prepare 83 = .ok (.iinc 4 1, 3) := by decide +kernel
theorem dX18_prepare_86 : decode cX18_prepare 86 = .ok (.goto (-15), 3) := by decide +kernel
theorem dX18_prepare_89 : decode cX18_prepare 89 = .ok (.aload_n 0, 1) := by decide +kernel
theorem dX18_prepare_90 : decode cX18_prepare 90 = .ok (.getfield 13, 3) := by decide +kernel
theorem dX18_prepare_93 : decode cX18_prepare 93 = .ok (.iconst 0, 1) := by decide +kernel
theorem dX18_prepare_94 : decode cX18_prepare 94 = .ok (.aaload, 1) := by decide +kernel
theorem dX18_prepare_95 : decode cX18_prepare 95 = .ok (.aload_n 3, 1) := by decide +kernel
theorem dX18_prepare_96 : decode cX18_prepare 96 = .ok (.invokevirtual 39, 3) := by decide +kernel
theorem dX18_prepare_99 : decode cX18_prepare 99 = .ok (.aload_n 3, 1) := by decide +kernel
theorem dX18_prepare_100 : decode cX18_prepare 100 = .ok (.aload_n 0, 1) := by decide +kernel
theorem dX18_prepare_101 : decode cX18_prepare 101 = .ok (.getfield 7, 3) := by decide +kernel
theorem dX18_prepare_104 : decode cX18_prepare 104 = .ok (.iconst 0, 1) := by decide +kernel
theorem dX18_prepare_105 : decode cX18_prepare 105 = .ok (.aaload, 1) := by decide +kernel
theorem dX18_prepare_106 : decode cX18_prepare 106 = .ok (.getfield 25, 3) := by decide +kernel
theorem dX18_prepare_109 : decode cX18_prepare 109 = .ok (.baload, 1) := by decide +kernel
theorem dX18_prepare_110 : decode cX18_prepare 110 = .ok (.ifCond .eq 4, 3) := by decide +kernel
theorem dX18_prepare_113 : decode cX18_prepare 113 = .ok (.return_, 1) := by decide +kernel
theorem dX18_prepare_114 : decode cX18_prepare 114 = .ok (.iconst 0, 1) := by decide +kernel
theorem dX18_prepare_115 : decode cX18_prepare 115 = .ok (.istore 4, 2) := by decide +kernel
theorem dX18_prepare_117 : decode cX18_prepare 117 = .ok (.iload 4, 2) := by decide +kernel
theorem dX18_prepare_119 : decode cX18_prepare 119 = .ok (.aload_n 3, 1) := by decide +kernel
theorem dX18_prepare_120 : decode cX18_prepare 120 = .ok (.arraylength, 1) := by decide +kernel
theorem dX18_prepare_121 : decode cX18_prepare 121 = .ok (.if_icmp .ge 32, 3) := by decide +kernel
theorem dX18_prepare_124 : decode cX18_prepare 124 = .ok (.aload_n 3, 1) := by decide +kernel
theorem dX18_prepare_125 : decode cX18_prepare 125 = .ok (.iload 4, 2) := by decide +kernel
theorem dX18_prepare_127 : decode cX18_prepare 127 = .ok (.iload 4, 2) := by decide +kernel
theorem dX18_prepare_129 : decode cX18_prepare 129 = .ok (.aload_n 0, 1) := by decide +kernel
theorem dX18_prepare_130 : decode cX18_prepare 130 = .ok (.getfield 7, 3) := by decide +kernel
theorem dX18_prepare_133 : decode cX18_prepare 133 = .ok (.iconst 0, 1) := by decide +kernel
theorem dX18_prepare_134 : decode cX18_prepare 134 = .ok (.aaload, 1) := by decide +kernel
theorem dX18_prepare_135 : decode cX18_prepare 135 = .ok (.getfield 25, 3) := by decide +kernel
theorem dX18_prepare_138 : decode cX18_prepare 138 = .ok (.if_icmp .eq 7, 3) := by decide +kernel
theorem dX18_prepare_141 : decode cX18_prepare 141 = .ok (.iconst 1, 1) := by decide +kernel
theorem dX18_prepare_142 : decode cX18_prepare 142 = .ok (.goto 4, 3) := by decide +kernel
theorem dX18_prepare_145 : decode cX18_prepare 145 = .ok (.iconst 0, 1) := by decide +kernel
theorem dX18_prepare_146 : decode cX18_prepare 146 = .ok (.bastore, 1) := by decide +kernel
theorem dX18_prepare_147 : decode cX18_prepare 147 = .ok (.iinc 4 1, 3) := by decide +kernel
theorem dX18_prepare_150 : decode cX18_prepare 150 = .ok (.goto (-33), 3) := by decide +kernel
theorem dX18_prepare_153 : decode cX18_prepare 153 = .ok (.aload_n 0, 1) := by decide +kernel
theorem dX18_prepare_154 : decode cX18_prepare 154 = .ok (.aload_n 0, 1) := by decide +kernel
theorem dX18_prepare_155 : decode cX18_prepare 155 = .ok (.getfield 17, 3) := by decide +kernel
theorem dX18_prepare_158 : decode cX18_prepare 158 = .ok (.aload_n 3, 1) := by decide +kernel
theorem dX18_prepare_159 : decode cX18_prepare 159 = .ok (.invokevirtual 156, 3) := by decide +kernel
theorem dX18_prepare_162 : decode cX18_prepare 162 = .ok (.ifCond .ne 7, 3) := by decide +kernel
theorem dX18_prepare_165 : decode cX18_prepare 165 = .ok (.iconst 1, 1) := by decide +kernel
theorem dX18_prepare_166 : decode cX18_prepare 166 = .ok (.goto 4, 3) := by decide +kernel
theorem dX18_prepare_169 : decode cX18_prepare 169 = .ok (.iconst 0, 1) := by decide +kernel
theorem dX18_prepare_170 : decode cX18_prepare 170 = .ok (.putfield 97, 3) := by decide +kernel
theorem dX18_prepare_173 : decode cX18_prepare 173 = .ok (.aload_n 2, 1) := by decide +kernel
theorem dX18_prepare_174 : decode cX18_prepare 174 = .ok (.dup, 1) := by decide +kernel
theorem dX18_prepare_175 : decode cX18_prepare 175 = .ok (.getfield 159, 3) := by decide +kernel
theorem dX18_prepare_178 : decode cX18_prepare 178 = .ok (.aload_n 0, 1) := by decide +kernel
theorem dX18_prepare_179 : decode cX18_prepare 179 = .ok (.getfield 97, 3) := by decide +kernel
theorem dX18_prepare_182 : decode cX18_prepare 182 = .ok (.ifCond .eq 7, 3) := by decide +kernel
theorem dX18_prepare_185 : decode cX18_prepare 185 = .ok (.iconst 1, 1) := by decide +kernel
theorem dX18_prepare_186 : decode cX18_prepare 186 = .ok (.goto 4, 3) := by decide +kernel
theorem dX18_prepare_189 : decode cX18_prepare 189 = .ok (.iconst 0, 1) := by decide +kernel
theorem dX18_prepare_190 : decode cX18_prepare 190 = .ok (.iadd, 1) := by decide +kernel
theorem dX18_prepare_191 : decode cX18_prepare 191 = .ok (.putfield 159, 3) := by decide +kernel
theorem dX18_prepare_194 : decode cX18_prepare 194 = .ok (.return_, 1) := by decide +kernel
theorem mw_X18_prepare : MW yX18_prepare (Cond.code yX18_prepare cX18_prepare 7 (Option.none : Option Jvm.ClassFile.FieldType)) cX18_prepare 7 (Option.none : Option Jvm.ClassFile.FieldType) 2 := ⟨rfl, ⟨(lw_all_tbl q1842), rfl, (lw_all_tbl q198)⟩, rfl, ⟨by decide, by decide⟩, by decide +kernel⟩
theorem dX25_prepare_0 : decode cX25_prepare 0 = .ok (.aload_n 0, 1) := by decide +kernel
theorem dX25_prepare_1 : decode cX25_prepare 1 = .ok (.getfield 15, 3) := by decide +kernel
theorem dX25_prepare_4 : decode cX25_prepare 4 = .ok (.astore_n 3, 1) := by decide +kernel
theorem dX25_prepare_5 : decode cX25_prepare 5 = .ok (.aload_n 3, 1) := by decide +kernel
theorem dX25_prepare_6 : decode cX25_prepare 6 = .ok (.arraylength, 1) := by decide +kernel
theorem dX25_prepare_7 : decode cX25_prepare 7 = .ok (.istore 4, 2) := by decide +kernel
theorem dX25_prepare_9 : decode cX25_prepare 9 = .ok (.iconst 0, 1) := by decide +kernel
theorem dX25_prepare_10 : decode cX25_prepare 10 = .ok (.istore 5, 2) := by decide +kernel
theorem dX25_prepare_12 : decode cX25_prepare 12 = .ok (.iload 5, 2) := by decide +kernel
theorem dX25_prepare_14 : decode cX25_prepare 14 = .ok (.iload 4, 2) := by decide +kernel
theorem dX25_prepare_16 : decode cX25_prepare 16 = .ok (.if_icmp .ge 22, 3) := by decide +kernel
theorem dX25_prepare_19 : decode cX25_prepare 19 = .ok (.aload_n 3, 1) := by decide +kernel
theorem dX25_prepare_20 : decode cX25_prepare 20 = .ok (.iload 5, 2) := by decide +kernel
theorem dX25_prepare_22 : decode cX25_prepare 22 = .ok (.aaload, 1) := by decide +kernel
theorem dX25_prepare_23 : decode cX25_prepare 23 = .ok (.astore 6, 2) := by decide +kernel
theorem dX25_prepare_25 : decode cX25_prepare 25 = .ok (.aload 6, 2) := by decide +kernel
theorem dX25_prepare_27 : decode cX25_prepare 27 = .ok (.aload_n 1, 1) := by decide +kernel
theorem dX25_prepare_28 : decode cX25_prepare 28 = .ok (.aload_n 2, 1) := by decide +kernel
theorem dX25_prepare_29 : decode cX25_prepare 29 = .ok (.invokevirtual 72, 3) := by decide +kernel
theorem dX25_prepare_32 : decode cX25_prepare 32 = .ok (.iinc 5 1, 3) := by decide +kernel
theorem dX25_prepare_35 : decode cX25_prepare 35 = .ok (.goto (-23), 3) := by decide +kernel
theorem dX25_prepare_38 : decode cX25_prepare 38 = .ok (.return_, 1) := by decide +kernel
theorem mw_X25_prepare : MW yX25_prepare (Cond.code yX25_prepare cX25_prepare 7 (Option.none : Option Jvm.ClassFile.FieldType)) cX25_prepare 7 (Option.none : Option Jvm.ClassFile.FieldType) 2 := ⟨rfl, ⟨(lw_all_tbl q1847), rfl, (lw_all_tbl q205)⟩, rfl, ⟨by decide, by decide⟩, by decide +kernel⟩
def GR_prepare (g : gC) (ts : TS) (d : Nat) (rc : Rc) : Prop := (∀ (l0 : Int) (l1 : Int) (l2 : Int), VR g ts ⟨"LazyForge$Part", "prepare", "(LLazyForge$Program;LLazyForge$Function;)V"⟩ none 2 d l0 [vA g l1, vA g l2] (rc 0 l0 l1 l2 0 0))
theorem gr_prepare_0 {g : gC} {ts : TS} {d : Nat} {rc : Rc} (h : GR_prepare g ts d rc) : (∀ (l0 : Int) (l1 : Int) (l2 : Int), VR g ts ⟨"LazyForge$Part", "prepare", "(LLazyForge$Program;LLazyForge$Function;)V"⟩ none 2 d l0 [vA g l1, vA g l2] (rc 0 l0 l1 l2 0 0)) := h
noncomputable def b_X23_prepare (rc : Rc) (l0 : Int) (l1 : Int) (l2 : Int) : Mo CH Int :=
  bnd (gf [123] 6 l0) fun v1 =>
  bnd (rc 0 v1 l1 l2 0 0) fun _ =>
  bnd (gf [123] 7 l0) fun v2 =>
  bnd (rc 0 v2 l1 l2 0 0) fun _ =>
  bnd (v_X23_mayWait l0 l1 l2) fun _ =>
  pr 0
theorem sb_X23_prepare (g : gC) (d : Nat) (ts : TS) (rc : Rc) (hr : GR_prepare g ts (d + 205) rc) (l0 : Int) (l1 : Int) (l2 : Int) : SF g yX23_prepare (Cond.code yX23_prepare cX23_prepare 3 (Option.none : Option Jvm.ClassFile.FieldType)) (Option.none : Option Jvm.ClassFile.FieldType) (d + 206) [vA g l0, vA g l1, vA g l2] (fun h => (h, ts)) (b_X23_prepare rc l0 l1 l2) := by
  refine SF.of (lv := [(0, vA g l0), (1, vA g l1), (2, vA g l2)]) (by decide) (wt_A (wt_A (wt_A wt_0))) rfl (by simp only [la_A, la_I, la_J, la_0]) (fun Γ hg hnm o => ?_)
  subst hg
  have o : Ok Γ "LazyForge$Sign" cX23_prepare 3 (Option.none : Option Jvm.ClassFile.FieldType) (d + 206) := o
  unfold b_X23_prepare
  refine s_aload_n o dX23_prepare_0 rfl 0 rfl ?_
  refine r_getf (vA (mg Γ)) rfl o cf_X23_one (Or.inl (lw_all_tbl q1526)) dX23_prepare_1 (fun v1 hv1 => ?_)
  refine s_aload_n o dX23_prepare_4 rfl 1 rfl ?_
  refine s_aload_n o dX23_prepare_5 rfl 2 rfl ?_
  refine s_cu (d := d + 205) (As := [vA (mg Γ) l1, vA (mg Γ) l2]) (st := []) (owner := "LazyForge$Part") o (gr_prepare_0 hr v1 l1 l2) rfl (lw_all_tbl q1853) (lw_all_tbl q1745) (Or.inl q1744) ⟨by decide, by decide⟩ (by decide +kernel) wt_0 rfl dX23_prepare_6 rfl (rs := fun _ => []) (fun _ => rfl) (fun _ _ => ?_)
  refine s_aload_n o dX23_prepare_9 rfl 0 rfl ?_
  refine r_getf (vA (mg Γ)) rfl o cf_X23_two (Or.inl (lw_all_tbl q1527)) dX23_prepare_10 (fun v2 hv2 => ?_)
  refine s_aload_n o dX23_prepare_13 rfl 1 rfl ?_
  refine s_aload_n o dX23_prepare_14 rfl 2 rfl ?_
  refine s_cu (d := d + 205) (As := [vA (mg Γ) l1, vA (mg Γ) l2]) (st := []) (owner := "LazyForge$Part") o (gr_prepare_0 hr v2 l1 l2) rfl (lw_all_tbl q1853) (lw_all_tbl q1745) (Or.inl q1744) ⟨by decide, by decide⟩ (by decide +kernel) wt_0 rfl dX23_prepare_15 rfl (rs := fun _ => []) (fun _ => rfl) (fun _ _ => ?_)
  refine s_aload_n o dX23_prepare_18 rfl 0 rfl ?_
  refine s_aload_n o dX23_prepare_19 rfl 1 rfl ?_
  refine s_aload_n o dX23_prepare_20 rfl 2 rfl ?_
  refine s_cu (d := d + 205) (As := [vA (mg Γ) l1, vA (mg Γ) l2]) (st := []) (owner := "LazyForge$Part") o (sv_X23_mayWait (mg Γ) (d + 4) ts l0 l1 l2) rfl (lw_all_tbl q1859) (lw_all_tbl q1860) (Or.inl q1760) ⟨by decide, by decide⟩ (by decide +kernel) wt_0 rfl dX23_prepare_21 rfl (rs := fun _ => []) (fun _ => rfl) (fun _ _ => ?_)
  exact s_vret o rfl dX23_prepare_24 (fun _ hh => hh)
abbrev okb_X22_prepare_21 (x : Int × Int × Int × Int × Int × Int) : Prop := R32 x.2.2.2.2.1 ∧ R32 x.2.2.2.2.2
abbrev lvb_X22_prepare_21 (Γ : Gm) (x : Int × Int × Int × Int × Int × Int) : List (Nat × Value) := [(0, vA (mg Γ) x.1), (1, vA (mg Γ) x.2.1), (2, vA (mg Γ) x.2.2.1), (3, vA (mg Γ) x.2.2.2.1), (4, vI x.2.2.2.2.1), (5, vI x.2.2.2.2.2)]
noncomputable def b_X22_prepare_21b (rc : Rc) {A : Type} (k_47 : Int → Int → Int → Mo CH A) (l0 : Int) (l1 : Int) (l2 : Int) (l3 : Int) (l4 : Int) (l5 : Int) : Mo CH ((Int × Int × Int × Int × Int × Int) ⊕ A) :=
  if l4 ≤ l5 then
    lo (k_47 l0 l1 l2)
  else
    bnd (ald 5 l3 l5) fun v1 =>
    bnd (rc 0 v1 l1 l2 0 0) fun _ =>
    pr (.inl (l0, l1, l2, l3, l4, (w32 (l5 + 1))))
theorem sb_X22_prepare_21b {Γ : Gm} {ts : TS} {d : Nat} {rc : Rc} (hr : GR_prepare (mg Γ) ts (d + 205) rc) (o : Ok Γ "LazyForge$Case" cX22_prepare 7 (Option.none : Option Jvm.ClassFile.FieldType) (d + 206)) {A : Type} {K : A → CH → Prop} (k_47 : Int → Int → Int → Mo CH A) (hk_47 : ∀ (l0 : Int) (l1 : Int) (l2 : Int), Sx Γ (fun h => (h, ts)) K 47 [(0, vA (mg Γ) l0), (1, vA (mg Γ) l1), (2, vA (mg Γ) l2)] [] (k_47 l0 l1 l2)) (l0 : Int) (l1 : Int) (l2 : Int) (l3 : Int) (l4 : Int) (l5 : Int) (hl4 : R32 l4) (hl5 : R32 l5) : Sx Γ (fun h => (h, ts)) (KL Γ (fun h => (h, ts)) okb_X22_prepare_21 K 21 (lvb_X22_prepare_21 Γ) []) 21 [(0, vA (mg Γ) l0), (1, vA (mg Γ) l1), (2, vA (mg Γ) l2), (3, vA (mg Γ) l3), (4, vI l4), (5, vI l5)] [] (b_X22_prepare_21b rc k_47 l0 l1 l2 l3 l4 l5) := by
  unfold b_X22_prepare_21b
  refine s_iload o dX22_prepare_21 5 rfl ?_
  refine s_iload o dX22_prepare_23 4 rfl ?_
  refine s_icmp_ge (tgt := 47) o dX22_prepare_25 (by decide) hl5 hl4 ?_ ?_
  · refine r_to [(0, vA (mg Γ) l0), (1, vA (mg Γ) l1), (2, vA (mg Γ) l2)] [0, 1, 2] rfl ?_
    exact s_lo (hk_47 l0 l1 l2)
  · refine s_aload_n o dX22_prepare_28 rfl 3 rfl ?_
    refine s_iload o dX22_prepare_29 5 rfl ?_
    refine r_aald (kd := 5) o (by decide) rfl hl5 dX22_prepare_31 (fun v1 => ?_)
    refine r_astore o dX22_prepare_32 rfl ⟨(Nat.ne_of_beq_eq_false rfl), (fun _ => (vA_cat (mg Γ) l0)), ⟨(Nat.ne_of_beq_eq_false rfl), (fun _ => (vA_cat (mg Γ) l1)), ⟨(Nat.ne_of_beq_eq_false rfl), (fun _ => (vA_cat (mg Γ) l2)), ⟨(Nat.ne_of_beq_eq_false rfl), (fun _ => (vA_cat (mg Γ) l3)), ⟨(Nat.ne_of_beq_eq_false rfl), (fun _ => rfl), ⟨(Nat.ne_of_beq_eq_false rfl), (fun _ => rfl), trivial⟩⟩⟩⟩⟩⟩ ?_
    refine s_aload o dX22_prepare_34 0 rfl ?_
    refine s_aload_n o dX22_prepare_36 rfl 2 rfl ?_
    refine s_aload_n o dX22_prepare_37 rfl 3 rfl ?_
    refine s_cu (d := d + 205) (As := [vA (mg Γ) l1, vA (mg Γ) l2]) (st := []) (owner := "LazyForge$Part") o (gr_prepare_0 hr v1 l1 l2) rfl (lw_all_tbl q1755) (lw_all_tbl q1745) (Or.inl q1744) ⟨by decide, by decide⟩ (by decide +kernel) wt_0 rfl dX22_prepare_38 rfl (rs := fun _ => []) (fun _ => rfl) (fun _ _ => ?_)
    refine r_iinc (j := 6) o dX22_prepare_41 rfl rfl [(6, vA (mg Γ) v1), (0, vA (mg Γ) l0), (1, vA (mg Γ) l1), (2, vA (mg Γ) l2), (3, vA (mg Γ) l3), (4, vI l4)] [0, 1, 2, 3, 4, 5] rfl ⟨(Nat.ne_of_beq_eq_false rfl), (fun _ => (vA_cat (mg Γ) v1)), ⟨(Nat.ne_of_beq_eq_false rfl), (fun _ => (vA_cat (mg Γ) l0)), ⟨(Nat.ne_of_beq_eq_false rfl), (fun _ => (vA_cat (mg Γ) l1)), ⟨(Nat.ne_of_beq_eq_false rfl), (fun _ => (vA_cat (mg Γ) l2)), ⟨(Nat.ne_of_beq_eq_false rfl), (fun _ => (vA_cat (mg Γ) l3)), ⟨(Nat.ne_of_beq_eq_false rfl), (fun _ => rfl), trivial⟩⟩⟩⟩⟩⟩ ?_
    refine s_goto (tgt := 21) o dX22_prepare_44 (by decide) ?_
    refine r_to [(0, vA (mg Γ) l0), (1, vA (mg Γ) l1), (2, vA (mg Γ) l2), (3, vA (mg Γ) l3), (4, vI l4), (5, vI (w32 (l5 + 1)))] [2, 3, 4, 5, 6, 0] rfl ?_
    exact s_back (⟨hl4, (w32_R _)⟩) rfl
noncomputable def b_X22_prepare_21 (rc : Rc) {A : Type} (k_47 : Int → Int → Int → Mo CH A) (l0 : Int) (l1 : Int) (l2 : Int) (l3 : Int) (l4 : Int) (l5 : Int) : Mo CH A := Loop (fun x => b_X22_prepare_21b rc k_47 x.1 x.2.1 x.2.2.1 x.2.2.2.1 x.2.2.2.2.1 x.2.2.2.2.2) (l0, l1, l2, l3, l4, l5)
theorem sb_X22_prepare_21 {Γ : Gm} {ts : TS} {d : Nat} {rc : Rc} (hr : GR_prepare (mg Γ) ts (d + 205) rc) (o : Ok Γ "LazyForge$Case" cX22_prepare 7 (Option.none : Option Jvm.ClassFile.FieldType) (d + 206)) {A : Type} {K : A → CH → Prop} (k_47 : Int → Int → Int → Mo CH A) (hk_47 : ∀ (l0 : Int) (l1 : Int) (l2 : Int), Sx Γ (fun h => (h, ts)) K 47 [(0, vA (mg Γ) l0), (1, vA (mg Γ) l1), (2, vA (mg Γ) l2)] [] (k_47 l0 l1 l2)) (l0 : Int) (l1 : Int) (l2 : Int) (l3 : Int) (l4 : Int) (l5 : Int) (hl4 : R32 l4) (hl5 : R32 l5) : Sx Γ (fun h => (h, ts)) K 21 [(0, vA (mg Γ) l0), (1, vA (mg Γ) l1), (2, vA (mg Γ) l2), (3, vA (mg Γ) l3), (4, vI l4), (5, vI l5)] [] (b_X22_prepare_21 rc k_47 l0 l1 l2 l3 l4 l5) :=
  s_loop okb_X22_prepare_21 (lvb_X22_prepare_21 Γ) (fun x hx => sb_X22_prepare_21b hr o k_47 hk_47 x.1 x.2.1 x.2.2.1 x.2.2.2.1 x.2.2.2.2.1 x.2.2.2.2.2 hx.1 hx.2) (x := (l0, l1, l2, l3, l4, l5)) ⟨hl4, hl5⟩
noncomputable def b_X22_prepare (rc : Rc) (l0 : Int) (l1 : Int) (l2 : Int) : Mo CH Int :=
  bnd (gf [122] 5 l0) fun v1 =>
  bnd (rc 0 v1 l1 l2 0 0) fun _ =>
  bnd (gf [122] 9 l0) fun v2 =>
  bnd (aln v2) fun v3 =>
  b_X22_prepare_21 rc
    (fun v4 v5 v6 => bnd (v_X22_mayWait v4 v5 v6) fun _ =>
  pr 0) l0 l1 l2 v2 v3 0
theorem sb_X22_prepare (g : gC) (d : Nat) (ts : TS) (rc : Rc) (hr : GR_prepare g ts (d + 205) rc) (l0 : Int) (l1 : Int) (l2 : Int) : SF g yX22_prepare (Cond.code yX22_prepare cX22_prepare 7 (Option.none : Option Jvm.ClassFile.FieldType)) (Option.none : Option Jvm.ClassFile.FieldType) (d + 206) [vA g l0, vA g l1, vA g l2] (fun h => (h, ts)) (b_X22_prepare rc l0 l1 l2) := by
  refine SF.of (lv := [(0, vA g l0), (1, vA g l1), (2, vA g l2)]) (by decide) (wt_A (wt_A (wt_A wt_0))) rfl (by simp only [la_A, la_I, la_J, la_0]) (fun Γ hg hnm o => ?_)
  subst hg
  have o : Ok Γ "LazyForge$Case" cX22_prepare 7 (Option.none : Option Jvm.ClassFile.FieldType) (d + 206) := o
  unfold b_X22_prepare
  refine s_aload_n o dX22_prepare_0 rfl 0 rfl ?_
  refine r_getf (vA (mg Γ)) rfl o cf_X22_of (Or.inl (lw_all_tbl q1495)) dX22_prepare_1 (fun v1 hv1 => ?_)
  refine s_aload_n o dX22_prepare_4 rfl 1 rfl ?_
  refine s_aload_n o dX22_prepare_5 rfl 2 rfl ?_
  refine s_cu (d := d + 205) (As := [vA (mg Γ) l1, vA (mg Γ) l2]) (st := []) (owner := "LazyForge$Part") o (gr_prepare_0 hr v1 l1 l2) rfl (lw_all_tbl q1755) (lw_all_tbl q1745) (Or.inl q1744) ⟨by decide, by decide⟩ (by decide +kernel) wt_0 rfl dX22_prepare_6 rfl (rs := fun _ => []) (fun _ => rfl) (fun _ _ => ?_)
  refine s_aload_n o dX22_prepare_9 rfl 0 rfl ?_
  refine r_getf (vA (mg Γ)) rfl o cf_X22_parts0 (Or.inl (lw_all_tbl q1499)) dX22_prepare_10 (fun v2 hv2 => ?_)
  refine r_astore_n o dX22_prepare_13 rfl rfl ⟨(Nat.ne_of_beq_eq_false rfl), (fun _ => (vA_cat (mg Γ) l0)), ⟨(Nat.ne_of_beq_eq_false rfl), (fun _ => (vA_cat (mg Γ) l1)), ⟨(Nat.ne_of_beq_eq_false rfl), (fun _ => (vA_cat (mg Γ) l2)), trivial⟩⟩⟩ ?_
  refine s_aload_n o dX22_prepare_14 rfl 0 rfl ?_
  refine s_alen o dX22_prepare_15 (fun v3 hv3 => ?_)
  refine r_istore o dX22_prepare_16 rfl ⟨(Nat.ne_of_beq_eq_false rfl), (fun _ => (vA_cat (mg Γ) v2)), ⟨(Nat.ne_of_beq_eq_false rfl), (fun _ => (vA_cat (mg Γ) l0)), ⟨(Nat.ne_of_beq_eq_false rfl), (fun _ => (vA_cat (mg Γ) l1)), ⟨(Nat.ne_of_beq_eq_false rfl), (fun _ => (vA_cat (mg Γ) l2)), trivial⟩⟩⟩⟩ ?_
  refine s_iconst o dX22_prepare_18 ?_
  refine r_istore o dX22_prepare_19 rfl ⟨(Nat.ne_of_beq_eq_false rfl), (fun _ => rfl), ⟨(Nat.ne_of_beq_eq_false rfl), (fun _ => (vA_cat (mg Γ) v2)), ⟨(Nat.ne_of_beq_eq_false rfl), (fun _ => (vA_cat (mg Γ) l0)), ⟨(Nat.ne_of_beq_eq_false rfl), (fun _ => (vA_cat (mg Γ) l1)), ⟨(Nat.ne_of_beq_eq_false rfl), (fun _ => (vA_cat (mg Γ) l2)), trivial⟩⟩⟩⟩⟩ ?_
  refine r_to [(0, vA (mg Γ) l0), (1, vA (mg Γ) l1), (2, vA (mg Γ) l2), (3, vA (mg Γ) v2), (4, vI v3), (5, vI 0)] [3, 4, 5, 2, 1, 0] rfl ?_
  refine sb_X22_prepare_21 hr o _ ?_ l0 l1 l2 v2 v3 0 (rN hv3) (r32 rfl)
  · intro v4 v5 v6
    refine s_aload_n o dX22_prepare_47 rfl 0 rfl ?_
    refine s_aload_n o dX22_prepare_48 rfl 1 rfl ?_
    refine s_aload_n o dX22_prepare_49 rfl 2 rfl ?_
    refine s_cu (d := d + 205) (As := [vA (mg Γ) v5, vA (mg Γ) v6]) (st := []) (owner := "LazyForge$Part") o (sv_X22_mayWait (mg Γ) (d + 4) ts v4 v5 v6) rfl (lw_all_tbl q1866) (lw_all_tbl q1867) (Or.inl q1760) ⟨by decide, by decide⟩ (by decide +kernel) wt_0 rfl dX22_prepare_50 rfl (rs := fun _ => []) (fun _ => rfl) (fun _ _ => ?_)
    exact s_vret o rfl dX22_prepare_53 (fun _ hh => hh)
abbrev okb_X21_prepare_21 (x : Int × Int × Int × Int × Int × Int) : Prop := R32 x.2.2.2.2.1 ∧ R32 x.2.2.2.2.2
abbrev lvb_X21_prepare_21 (Γ : Gm) (x : Int × Int × Int × Int × Int × Int) : List (Nat × Value) := [(0, vA (mg Γ) x.1), (1, vA (mg Γ) x.2.1), (2, vA (mg Γ) x.2.2.1), (3, vA (mg Γ) x.2.2.2.1), (4, vI x.2.2.2.2.1), (5, vI x.2.2.2.2.2)]
noncomputable def b_X21_prepare_21b (rc : Rc) {A : Type} (k_47 : Int → Int → Int → Mo CH A) (l0 : Int) (l1 : Int) (l2 : Int) (l3 : Int) (l4 : Int) (l5 : Int) : Mo CH ((Int × Int × Int × Int × Int × Int) ⊕ A) :=
  if l4 ≤ l5 then
    lo (k_47 l0 l1 l2)
  else
    bnd (ald 5 l3 l5) fun v1 =>
    bnd (rc 0 v1 l1 l2 0 0) fun _ =>
    pr (.inl (l0, l1, l2, l3, l4, (w32 (l5 + 1))))
theorem sb_X21_prepare_21b {Γ : Gm} {ts : TS} {d : Nat} {rc : Rc} (hr : GR_prepare (mg Γ) ts (d + 205) rc) (o : Ok Γ "LazyForge$Apply" cX21_prepare 7 (Option.none : Option Jvm.ClassFile.FieldType) (d + 206)) {A : Type} {K : A → CH → Prop} (k_47 : Int → Int → Int → Mo CH A) (hk_47 : ∀ (l0 : Int) (l1 : Int) (l2 : Int), Sx Γ (fun h => (h, ts)) K 47 [(0, vA (mg Γ) l0), (1, vA (mg Γ) l1), (2, vA (mg Γ) l2)] [] (k_47 l0 l1 l2)) (l0 : Int) (l1 : Int) (l2 : Int) (l3 : Int) (l4 : Int) (l5 : Int) (hl4 : R32 l4) (hl5 : R32 l5) : Sx Γ (fun h => (h, ts)) (KL Γ (fun h => (h, ts)) okb_X21_prepare_21 K 21 (lvb_X21_prepare_21 Γ) []) 21 [(0, vA (mg Γ) l0), (1, vA (mg Γ) l1), (2, vA (mg Γ) l2), (3, vA (mg Γ) l3), (4, vI l4), (5, vI l5)] [] (b_X21_prepare_21b rc k_47 l0 l1 l2 l3 l4 l5) := by
  unfold b_X21_prepare_21b
  refine s_iload o dX21_prepare_21 5 rfl ?_
  refine s_iload o dX21_prepare_23 4 rfl ?_
  refine s_icmp_ge (tgt := 47) o dX21_prepare_25 (by decide) hl5 hl4 ?_ ?_
  · refine r_to [(0, vA (mg Γ) l0), (1, vA (mg Γ) l1), (2, vA (mg Γ) l2)] [0, 1, 2] rfl ?_
    exact s_lo (hk_47 l0 l1 l2)
  · refine s_aload_n o dX21_prepare_28 rfl 3 rfl ?_
    refine s_iload o dX21_prepare_29 5 rfl ?_
    refine r_aald (kd := 5) o (by decide) rfl hl5 dX21_prepare_31 (fun v1 => ?_)
    refine r_astore o dX21_prepare_32 rfl ⟨(Nat.ne_of_beq_eq_false rfl), (fun _ => (vA_cat (mg Γ) l0)), ⟨(Nat.ne_of_beq_eq_false rfl), (fun _ => (vA_cat (mg Γ) l1)), ⟨(Nat.ne_of_beq_eq_false rfl), (fun _ => (vA_cat (mg Γ) l2)), ⟨(Nat.ne_of_beq_eq_false rfl), (fun _ => (vA_cat (mg Γ) l3)), ⟨(Nat.ne_of_beq_eq_false rfl), (fun _ => rfl), ⟨(Nat.ne_of_beq_eq_false rfl), (fun _ => rfl), trivial⟩⟩⟩⟩⟩⟩ ?_
    refine s_aload o dX21_prepare_34 0 rfl ?_
    refine s_aload_n o dX21_prepare_36 rfl 2 rfl ?_
    refine s_aload_n o dX21_prepare_37 rfl 3 rfl ?_
    refine s_cu (d := d + 205) (As := [vA (mg Γ) l1, vA (mg Γ) l2]) (st := []) (owner := "LazyForge$Part") o (gr_prepare_0 hr v1 l1 l2) rfl (lw_all_tbl q1752) (lw_all_tbl q1745) (Or.inl q1744) ⟨by decide, by decide⟩ (by decide +kernel) wt_0 rfl dX21_prepare_38 rfl (rs := fun _ => []) (fun _ => rfl) (fun _ _ => ?_)
    refine r_iinc (j := 6) o dX21_prepare_41 rfl rfl [(6, vA (mg Γ) v1), (0, vA (mg Γ) l0), (1, vA (mg Γ) l1), (2, vA (mg Γ) l2), (3, vA (mg Γ) l3), (4, vI l4)] [0, 1, 2, 3, 4, 5] rfl ⟨(Nat.ne_of_beq_eq_false rfl), (fun _ => (vA_cat (mg Γ) v1)), ⟨(Nat.ne_of_beq_eq_false rfl), (fun _ => (vA_cat (mg Γ) l0)), ⟨(Nat.ne_of_beq_eq_false rfl), (fun _ => (vA_cat (mg Γ) l1)), ⟨(Nat.ne_of_beq_eq_false rfl), (fun _ => (vA_cat (mg Γ) l2)), ⟨(Nat.ne_of_beq_eq_false rfl), (fun _ => (vA_cat (mg Γ) l3)), ⟨(Nat.ne_of_beq_eq_false rfl), (fun _ => rfl), trivial⟩⟩⟩⟩⟩⟩ ?_
    refine s_goto (tgt := 21) o dX21_prepare_44 (by decide) ?_
    refine r_to [(0, vA (mg Γ) l0), (1, vA (mg Γ) l1), (2, vA (mg Γ) l2), (3, vA (mg Γ) l3), (4, vI l4), (5, vI (w32 (l5 + 1)))] [2, 3, 4, 5, 6, 0] rfl ?_
    exact s_back (⟨hl4, (w32_R _)⟩) rfl
noncomputable def b_X21_prepare_21 (rc : Rc) {A : Type} (k_47 : Int → Int → Int → Mo CH A) (l0 : Int) (l1 : Int) (l2 : Int) (l3 : Int) (l4 : Int) (l5 : Int) : Mo CH A := Loop (fun x => b_X21_prepare_21b rc k_47 x.1 x.2.1 x.2.2.1 x.2.2.2.1 x.2.2.2.2.1 x.2.2.2.2.2) (l0, l1, l2, l3, l4, l5)
theorem sb_X21_prepare_21 {Γ : Gm} {ts : TS} {d : Nat} {rc : Rc} (hr : GR_prepare (mg Γ) ts (d + 205) rc) (o : Ok Γ "LazyForge$Apply" cX21_prepare 7 (Option.none : Option Jvm.ClassFile.FieldType) (d + 206)) {A : Type} {K : A → CH → Prop} (k_47 : Int → Int → Int → Mo CH A) (hk_47 : ∀ (l0 : Int) (l1 : Int) (l2 : Int), Sx Γ (fun h => (h, ts)) K 47 [(0, vA (mg Γ) l0), (1, vA (mg Γ) l1), (2, vA (mg Γ) l2)] [] (k_47 l0 l1 l2)) (l0 : Int) (l1 : Int) (l2 : Int) (l3 : Int) (l4 : Int) (l5 : Int) (hl4 : R32 l4) (hl5 : R32 l5) : Sx Γ (fun h => (h, ts)) K 21 [(0, vA (mg Γ) l0), (1, vA (mg Γ) l1), (2, vA (mg Γ) l2), (3, vA (mg Γ) l3), (4, vI l4), (5, vI l5)] [] (b_X21_prepare_21 rc k_47 l0 l1 l2 l3 l4 l5) :=
  s_loop okb_X21_prepare_21 (lvb_X21_prepare_21 Γ) (fun x hx => sb_X21_prepare_21b hr o k_47 hk_47 x.1 x.2.1 x.2.2.1 x.2.2.2.1 x.2.2.2.2.1 x.2.2.2.2.2 hx.1 hx.2) (x := (l0, l1, l2, l3, l4, l5)) ⟨hl4, hl5⟩
noncomputable def b_X21_prepare (rc : Rc) (l0 : Int) (l1 : Int) (l2 : Int) : Mo CH Int :=
  bnd (gf [121] 5 l0) fun v1 =>
  bnd (rc 0 v1 l1 l2 0 0) fun _ =>
  bnd (gf [121] 6 l0) fun v2 =>
  bnd (aln v2) fun v3 =>
  b_X21_prepare_21 rc
    (fun v4 v5 v6 => bnd (isk 121 v4) fun _ =>
  bnd (c_X21_isLess v4) fun v7 =>
  if ¬ v7 = 0 then
    pr 0
  else
    bnd (v_X21_mayWait v4 v5 v6) fun _ =>
    pr 0) l0 l1 l2 v2 v3 0
theorem sb_X21_prepare (g : gC) (d : Nat) (ts : TS) (rc : Rc) (hr : GR_prepare g ts (d + 205) rc) (l0 : Int) (l1 : Int) (l2 : Int) : SF g yX21_prepare (Cond.code yX21_prepare cX21_prepare 7 (Option.none : Option Jvm.ClassFile.FieldType)) (Option.none : Option Jvm.ClassFile.FieldType) (d + 206) [vA g l0, vA g l1, vA g l2] (fun h => (h, ts)) (b_X21_prepare rc l0 l1 l2) := by
  refine SF.of (lv := [(0, vA g l0), (1, vA g l1), (2, vA g l2)]) (by decide) (wt_A (wt_A (wt_A wt_0))) rfl (by simp only [la_A, la_I, la_J, la_0]) (fun Γ hg hnm o => ?_)
  subst hg
  have o : Ok Γ "LazyForge$Apply" cX21_prepare 7 (Option.none : Option Jvm.ClassFile.FieldType) (d + 206) := o
  unfold b_X21_prepare
  refine s_aload_n o dX21_prepare_0 rfl 0 rfl ?_
  refine r_getf (vA (mg Γ)) rfl o cf_X21_head (Or.inl (lw_all_tbl q1468)) dX21_prepare_1 (fun v1 hv1 => ?_)
  refine s_aload_n o dX21_prepare_4 rfl 1 rfl ?_
  refine s_aload_n o dX21_prepare_5 rfl 2 rfl ?_
  refine s_cu (d := d + 205) (As := [vA (mg Γ) l1, vA (mg Γ) l2]) (st := []) (owner := "LazyForge$Part") o (gr_prepare_0 hr v1 l1 l2) rfl (lw_all_tbl q1752) (lw_all_tbl q1745) (Or.inl q1744) ⟨by decide, by decide⟩ (by decide +kernel) wt_0 rfl dX21_prepare_6 rfl (rs := fun _ => []) (fun _ => rfl) (fun _ _ => ?_)
  refine s_aload_n o dX21_prepare_9 rfl 0 rfl ?_
  refine r_getf (vA (mg Γ)) rfl o cf_X21_arguments (Or.inl (lw_all_tbl q1469)) dX21_prepare_10 (fun v2 hv2 => ?_)
  refine r_astore_n o dX21_prepare_13 rfl rfl ⟨(Nat.ne_of_beq_eq_false rfl), (fun _ => (vA_cat (mg Γ) l0)), ⟨(Nat.ne_of_beq_eq_false rfl), (fun _ => (vA_cat (mg Γ) l1)), ⟨(Nat.ne_of_beq_eq_false rfl), (fun _ => (vA_cat (mg Γ) l2)), trivial⟩⟩⟩ ?_
  refine s_aload_n o dX21_prepare_14 rfl 0 rfl ?_
  refine s_alen o dX21_prepare_15 (fun v3 hv3 => ?_)
  refine r_istore o dX21_prepare_16 rfl ⟨(Nat.ne_of_beq_eq_false rfl), (fun _ => (vA_cat (mg Γ) v2)), ⟨(Nat.ne_of_beq_eq_false rfl), (fun _ => (vA_cat (mg Γ) l0)), ⟨(Nat.ne_of_beq_eq_false rfl), (fun _ => (vA_cat (mg Γ) l1)), ⟨(Nat.ne_of_beq_eq_false rfl), (fun _ => (vA_cat (mg Γ) l2)), trivial⟩⟩⟩⟩ ?_
  refine s_iconst o dX21_prepare_18 ?_
  refine r_istore o dX21_prepare_19 rfl ⟨(Nat.ne_of_beq_eq_false rfl), (fun _ => rfl), ⟨(Nat.ne_of_beq_eq_false rfl), (fun _ => (vA_cat (mg Γ) v2)), ⟨(Nat.ne_of_beq_eq_false rfl), (fun _ => (vA_cat (mg Γ) l0)), ⟨(Nat.ne_of_beq_eq_false rfl), (fun _ => (vA_cat (mg Γ) l1)), ⟨(Nat.ne_of_beq_eq_false rfl), (fun _ => (vA_cat (mg Γ) l2)), trivial⟩⟩⟩⟩⟩ ?_
  refine r_to [(0, vA (mg Γ) l0), (1, vA (mg Γ) l1), (2, vA (mg Γ) l2), (3, vA (mg Γ) v2), (4, vI v3), (5, vI 0)] [3, 4, 5, 2, 1, 0] rfl ?_
  refine sb_X21_prepare_21 hr o _ ?_ l0 l1 l2 v2 v3 0 (rN hv3) (r32 rfl)
  · intro v4 v5 v6
    refine s_aload_n o dX21_prepare_47 rfl 0 rfl ?_
    refine s_cvC (d := d + 205) (As := []) (st := []) (c := 21) o (sc_X21_isLess (mg Γ) (d + 201) ts v4) mw_X21_isLess rfl (Or.inl (lw_all_tbl q1869)) rfl (lw_all_tbl q1871) (lw_all_tbl q1870) wt_0 rfl dX21_prepare_48 rfl (rs := fun r => [vI r]) (fun _ => rfl) (fun v7 hv7 => ?_)
    refine s_if_ne (tgt := 60) o dX21_prepare_51 (by decide) (rZ (hv7 _ rfl)) ?_ ?_
    · exact s_vret o rfl dX21_prepare_60 (fun _ hh => hh)
    · refine s_aload_n o dX21_prepare_54 rfl 0 rfl ?_
      refine s_aload_n o dX21_prepare_55 rfl 1 rfl ?_
      refine s_aload_n o dX21_prepare_56 rfl 2 rfl ?_
      refine s_cu (d := d + 205) (As := [vA (mg Γ) v5, vA (mg Γ) v6]) (st := []) (owner := "LazyForge$Part") o (sv_X21_mayWait (mg Γ) (d + 4) ts v4 v5 v6) rfl (lw_all_tbl q1878) (lw_all_tbl q1879) (Or.inl q1760) ⟨by decide, by decide⟩ (by decide +kernel) wt_0 rfl dX21_prepare_57 rfl (rs := fun _ => []) (fun _ => rfl) (fun _ _ => ?_)
      exact s_vret o rfl dX21_prepare_60 (fun _ hh => hh)
abbrev okb_X18_prepare_71 (x : Int × Int × Int × Int) : Prop := R32 x.2.2.2
abbrev lvb_X18_prepare_71 (Γ : Gm) (x : Int × Int × Int × Int) : List (Nat × Value) := [(0, vA (mg Γ) x.1), (2, vA (mg Γ) x.2.1), (3, vA (mg Γ) x.2.2.1), (4, vI x.2.2.2)]
noncomputable def b_X18_prepare_71b (rc : Rc) {A : Type} (k_89 : Int → Int → Int → Mo CH A) (l0 : Int) (l2 : Int) (l3 : Int) (l4 : Int) : Mo CH ((Int × Int × Int × Int) ⊕ A) :=
  bnd (aln l3) fun v1 =>
  if v1 ≤ l4 then
    lo (k_89 l0 l2 l3)
  else
    bnd (ast 3 l3 l4 0) fun _ =>
    pr (.inl (l0, l2, l3, (w32 (l4 + 1))))
theorem sb_X18_prepare_71b {Γ : Gm} {ts : TS} {d : Nat} {rc : Rc} (hr : GR_prepare (mg Γ) ts (d + 205) rc) (o : Ok Γ "LazyForge$Let" cX18_prepare 7 (Option.none : Option Jvm.ClassFile.FieldType) (d + 206)) {A : Type} {K : A → CH → Prop} (k_89 : Int → Int → Int → Mo CH A) (hk_89 : ∀ (l0 : Int) (l2 : Int) (l3 : Int), Sx Γ (fun h => (h, ts)) K 89 [(0, vA (mg Γ) l0), (2, vA (mg Γ) l2), (3, vA (mg Γ) l3)] [] (k_89 l0 l2 l3)) (l0 : Int) (l2 : Int) (l3 : Int) (l4 : Int) (hl4 : R32 l4) : Sx Γ (fun h => (h, ts)) (KL Γ (fun h => (h, ts)) okb_X18_prepare_71 K 71 (lvb_X18_prepare_71 Γ) []) 71 [(0, vA (mg Γ) l0), (2, vA (mg Γ) l2), (3, vA (mg Γ) l3), (4, vI l4)] [] (b_X18_prepare_71b rc k_89 l0 l2 l3 l4) := by
  unfold b_X18_prepare_71b
  refine s_iload o dX18_prepare_71 3 rfl ?_
  refine s_aload_n o dX18_prepare_73 rfl 2 rfl ?_
  refine s_alen o dX18_prepare_74 (fun v1 hv1 => ?_)
  refine s_icmp_ge (tgt := 89) o dX18_prepare_75 (by decide) hl4 (rN hv1) ?_ ?_
  · refine r_to [(0, vA (mg Γ) l0), (2, vA (mg Γ) l2), (3, vA (mg Γ) l3)] [0, 1, 2] rfl ?_
    exact s_lo (hk_89 l0 l2 l3)
  · refine s_aload_n o dX18_prepare_78 rfl 2 rfl ?_
    refine s_iload o dX18_prepare_79 3 rfl ?_
    refine s_iconst o dX18_prepare_81 ?_
    refine r_zast o hl4 (Or.inl rfl) dX18_prepare_82 ?_
    refine r_iinc (j := 3) o dX18_prepare_83 rfl rfl [(0, vA (mg Γ) l0), (2, vA (mg Γ) l2), (3, vA (mg Γ) l3)] [0, 1, 2] rfl ⟨(Nat.ne_of_beq_eq_false rfl), (fun _ => (vA_cat (mg Γ) l0)), ⟨(Nat.ne_of_beq_eq_false rfl), (fun _ => (vA_cat (mg Γ) l2)), ⟨(Nat.ne_of_beq_eq_false rfl), (fun _ => (vA_cat (mg Γ) l3)), trivial⟩⟩⟩ ?_
    refine s_goto (tgt := 71) o dX18_prepare_86 (by decide) ?_
    refine r_to [(0, vA (mg Γ) l0), (2, vA (mg Γ) l2), (3, vA (mg Γ) l3), (4, vI (w32 (l4 + 1)))] [1, 2, 3, 0] rfl ?_
    exact s_back (w32_R _) rfl
noncomputable def b_X18_prepare_71 (rc : Rc) {A : Type} (k_89 : Int → Int → Int → Mo CH A) (l0 : Int) (l2 : Int) (l3 : Int) (l4 : Int) : Mo CH A := Loop (fun x => b_X18_prepare_71b rc k_89 x.1 x.2.1 x.2.2.1 x.2.2.2) (l0, l2, l3, l4)
theorem sb_X18_prepare_71 {Γ : Gm} {ts : TS} {d : Nat} {rc : Rc} (hr : GR_prepare (mg Γ) ts (d + 205) rc) (o : Ok Γ "LazyForge$Let" cX18_prepare 7 (Option.none : Option Jvm.ClassFile.FieldType) (d + 206)) {A : Type} {K : A → CH → Prop} (k_89 : Int → Int → Int → Mo CH A) (hk_89 : ∀ (l0 : Int) (l2 : Int) (l3 : Int), Sx Γ (fun h => (h, ts)) K 89 [(0, vA (mg Γ) l0), (2, vA (mg Γ) l2), (3, vA (mg Γ) l3)] [] (k_89 l0 l2 l3)) (l0 : Int) (l2 : Int) (l3 : Int) (l4 : Int) (hl4 : R32 l4) : Sx Γ (fun h => (h, ts)) K 71 [(0, vA (mg Γ) l0), (2, vA (mg Γ) l2), (3, vA (mg Γ) l3), (4, vI l4)] [] (b_X18_prepare_71 rc k_89 l0 l2 l3 l4) :=
  s_loop okb_X18_prepare_71 (lvb_X18_prepare_71 Γ) (fun x hx => sb_X18_prepare_71b hr o k_89 hk_89 x.1 x.2.1 x.2.2.1 x.2.2.2 hx) (x := (l0, l2, l3, l4)) hl4
abbrev okb_X18_prepare_12 (x : Int × Int × Int × Int × Int × Int) : Prop := R32 x.2.2.2.2.1 ∧ R32 x.2.2.2.2.2
abbrev lvb_X18_prepare_12 (Γ : Gm) (x : Int × Int × Int × Int × Int × Int) : List (Nat × Value) := [(0, vA (mg Γ) x.1), (1, vA (mg Γ) x.2.1), (2, vA (mg Γ) x.2.2.1), (3, vA (mg Γ) x.2.2.2.1), (4, vI x.2.2.2.2.1), (5, vI x.2.2.2.2.2)]
noncomputable def b_X18_prepare_12b (rc : Rc) {A : Type} (k_38 : Int → Int → Int → Mo CH A) (l0 : Int) (l1 : Int) (l2 : Int) (l3 : Int) (l4 : Int) (l5 : Int) : Mo CH ((Int × Int × Int × Int × Int × Int) ⊕ A) :=
  if l4 ≤ l5 then
    lo (k_38 l0 l1 l2)
  else
    bnd (ald 5 l3 l5) fun v1 =>
    bnd (rc 0 v1 l1 l2 0 0) fun _ =>
    pr (.inl (l0, l1, l2, l3, l4, (w32 (l5 + 1))))
theorem sb_X18_prepare_12b {Γ : Gm} {ts : TS} {d : Nat} {rc : Rc} (hr : GR_prepare (mg Γ) ts (d + 205) rc) (o : Ok Γ "LazyForge$Let" cX18_prepare 7 (Option.none : Option Jvm.ClassFile.FieldType) (d + 206)) {A : Type} {K : A → CH → Prop} (k_38 : Int → Int → Int → Mo CH A) (hk_38 : ∀ (l0 : Int) (l1 : Int) (l2 : Int), Sx Γ (fun h => (h, ts)) K 38 [(0, vA (mg Γ) l0), (1, vA (mg Γ) l1), (2, vA (mg Γ) l2)] [] (k_38 l0 l1 l2)) (l0 : Int) (l1 : Int) (l2 : Int) (l3 : Int) (l4 : Int) (l5 : Int) (hl4 : R32 l4) (hl5 : R32 l5) : Sx Γ (fun h => (h, ts)) (KL Γ (fun h => (h, ts)) okb_X18_prepare_12 K 12 (lvb_X18_prepare_12 Γ) []) 12 [(0, vA (mg Γ) l0), (1, vA (mg Γ) l1), (2, vA (mg Γ) l2), (3, vA (mg Γ) l3), (4, vI l4), (5, vI l5)] [] (b_X18_prepare_12b rc k_38 l0 l1 l2 l3 l4 l5) := by
  unfold b_X18_prepare_12b
  refine s_iload o dX18_prepare_12 5 rfl ?_
  refine s_iload o dX18_prepare_14 4 rfl ?_
  refine s_icmp_ge (tgt := 38) o dX18_prepare_16 (by decide) hl5 hl4 ?_ ?_
  · refine r_to [(0, vA (mg Γ) l0), (1, vA (mg Γ) l1), (2, vA (mg Γ) l2)] [0, 1, 2] rfl ?_
    exact s_lo (hk_38 l0 l1 l2)
  · refine s_aload_n o dX18_prepare_19 rfl 3 rfl ?_
    refine s_iload o dX18_prepare_20 5 rfl ?_
    refine r_aald (kd := 5) o (by decide) rfl hl5 dX18_prepare_22 (fun v1 => ?_)
    refine r_astore o dX18_prepare_23 rfl ⟨(Nat.ne_of_beq_eq_false rfl), (fun _ => (vA_cat (mg Γ) l0)), ⟨(Nat.ne_of_beq_eq_false rfl), (fun _ => (vA_cat (mg Γ) l1)), ⟨(Nat.ne_of_beq_eq_false rfl), (fun _ => (vA_cat (mg Γ) l2)), ⟨(Nat.ne_of_beq_eq_false rfl), (fun _ => (vA_cat (mg Γ) l3)), ⟨(Nat.ne_of_beq_eq_false rfl), (fun _ => rfl), ⟨(Nat.ne_of_beq_eq_false rfl), (fun _ => rfl), trivial⟩⟩⟩⟩⟩⟩ ?_
    refine s_aload o dX18_prepare_25 0 rfl ?_
    refine s_aload_n o dX18_prepare_27 rfl 2 rfl ?_
    refine s_aload_n o dX18_prepare_28 rfl 3 rfl ?_
    refine s_cu (d := d + 205) (As := [vA (mg Γ) l1, vA (mg Γ) l2]) (st := []) (owner := "LazyForge$Part") o (gr_prepare_0 hr v1 l1 l2) rfl (lw_all_tbl q1843) (lw_all_tbl q1745) (Or.inl q1744) ⟨by decide, by decide⟩ (by decide +kernel) wt_0 rfl dX18_prepare_29 rfl (rs := fun _ => []) (fun _ => rfl) (fun _ _ => ?_)
    refine r_iinc (j := 6) o dX18_prepare_32 rfl rfl [(6, vA (mg Γ) v1), (0, vA (mg Γ) l0), (1, vA (mg Γ) l1), (2, vA (mg Γ) l2), (3, vA (mg Γ) l3), (4, vI l4)] [0, 1, 2, 3, 4, 5] rfl ⟨(Nat.ne_of_beq_eq_false rfl), (fun _ => (vA_cat (mg Γ) v1)), ⟨(Nat.ne_of_beq_eq_false rfl), (fun _ => (vA_cat (mg Γ) l0)), ⟨(Nat.ne_of_beq_eq_false rfl), (fun _ => (vA_cat (mg Γ) l1)), ⟨(Nat.ne_of_beq_eq_false rfl), (fun _ => (vA_cat (mg Γ) l2)), ⟨(Nat.ne_of_beq_eq_false rfl), (fun _ => (vA_cat (mg Γ) l3)), ⟨(Nat.ne_of_beq_eq_false rfl), (fun _ => rfl), trivial⟩⟩⟩⟩⟩⟩ ?_
    refine s_goto (tgt := 12) o dX18_prepare_35 (by decide) ?_
    refine r_to [(0, vA (mg Γ) l0), (1, vA (mg Γ) l1), (2, vA (mg Γ) l2), (3, vA (mg Γ) l3), (4, vI l4), (5, vI (w32 (l5 + 1)))] [2, 3, 4, 5, 6, 0] rfl ?_
    exact s_back (⟨hl4, (w32_R _)⟩) rfl
noncomputable def b_X18_prepare_12 (rc : Rc) {A : Type} (k_38 : Int → Int → Int → Mo CH A) (l0 : Int) (l1 : Int) (l2 : Int) (l3 : Int) (l4 : Int) (l5 : Int) : Mo CH A := Loop (fun x => b_X18_prepare_12b rc k_38 x.1 x.2.1 x.2.2.1 x.2.2.2.1 x.2.2.2.2.1 x.2.2.2.2.2) (l0, l1, l2, l3, l4, l5)
theorem sb_X18_prepare_12 {Γ : Gm} {ts : TS} {d : Nat} {rc : Rc} (hr : GR_prepare (mg Γ) ts (d + 205) rc) (o : Ok Γ "LazyForge$Let" cX18_prepare 7 (Option.none : Option Jvm.ClassFile.FieldType) (d + 206)) {A : Type} {K : A → CH → Prop} (k_38 : Int → Int → Int → Mo CH A) (hk_38 : ∀ (l0 : Int) (l1 : Int) (l2 : Int), Sx Γ (fun h => (h, ts)) K 38 [(0, vA (mg Γ) l0), (1, vA (mg Γ) l1), (2, vA (mg Γ) l2)] [] (k_38 l0 l1 l2)) (l0 : Int) (l1 : Int) (l2 : Int) (l3 : Int) (l4 : Int) (l5 : Int) (hl4 : R32 l4) (hl5 : R32 l5) : Sx Γ (fun h => (h, ts)) K 12 [(0, vA (mg Γ) l0), (1, vA (mg Γ) l1), (2, vA (mg Γ) l2), (3, vA (mg Γ) l3), (4, vI l4), (5, vI l5)] [] (b_X18_prepare_12 rc k_38 l0 l1 l2 l3 l4 l5) :=
  s_loop okb_X18_prepare_12 (lvb_X18_prepare_12 Γ) (fun x hx => sb_X18_prepare_12b hr o k_38 hk_38 x.1 x.2.1 x.2.2.1 x.2.2.2.1 x.2.2.2.2.1 x.2.2.2.2.2 hx.1 hx.2) (x := (l0, l1, l2, l3, l4, l5)) ⟨hl4, hl5⟩
abbrev okb_X18_prepare_117 (x : Int × Int × Int × Int) : Prop := R32 x.2.2.2
abbrev lvb_X18_prepare_117 (Γ : Gm) (x : Int × Int × Int × Int) : List (Nat × Value) := [(0, vA (mg Γ) x.1), (2, vA (mg Γ) x.2.1), (3, vA (mg Γ) x.2.2.1), (4, vI x.2.2.2)]
noncomputable def b_X18_prepare_146 (rc : Rc) {A : Type} (k_153 : Int → Int → Int → Mo CH A) (l0 : Int) (l2 : Int) (l3 : Int) (l4 : Int) (k0 : Int) (k1 : Int) (k2 : Int) : Mo CH ((Int × Int × Int × Int) ⊕ A) :=
  bnd (ast 3 k2 k1 k0) fun _ =>
  pr (.inl (l0, l2, l3, (w32 (l4 + 1))))
theorem sb_X18_prepare_146 {Γ : Gm} {ts : TS} {d : Nat} {rc : Rc} (hr : GR_prepare (mg Γ) ts (d + 205) rc) (o : Ok Γ "LazyForge$Let" cX18_prepare 7 (Option.none : Option Jvm.ClassFile.FieldType) (d + 206)) {A : Type} {K : A → CH → Prop}  (k_153 : Int → Int → Int → Mo CH A) (hk_153 : ∀ (l0 : Int) (l2 : Int) (l3 : Int), Sx Γ (fun h => (h, ts)) K 153 [(0, vA (mg Γ) l0), (2, vA (mg Γ) l2), (3, vA (mg Γ) l3)] [] (k_153 l0 l2 l3)) (l0 : Int) (l2 : Int) (l3 : Int) (l4 : Int) (k0 : Int) (k1 : Int) (k2 : Int) (hl4 : R32 l4) (hk0 : rg .boolean k0) (hk1 : R32 k1) : Sx Γ (fun h => (h, ts)) (KL Γ (fun h => (h, ts)) okb_X18_prepare_117 K 117 (lvb_X18_prepare_117 Γ) []) 146 [(0, vA (mg Γ) l0), (2, vA (mg Γ) l2), (3, vA (mg Γ) l3), (4, vI l4)] [vI k0, vI k1, vA (mg Γ) k2] (b_X18_prepare_146 rc k_153 l0 l2 l3 l4 k0 k1 k2) := by
  unfold b_X18_prepare_146
  refine r_zast o hk1 hk0 dX18_prepare_146 ?_
  refine r_iinc (j := 3) o dX18_prepare_147 rfl rfl [(0, vA (mg Γ) l0), (2, vA (mg Γ) l2), (3, vA (mg Γ) l3)] [0, 1, 2] rfl ⟨(Nat.ne_of_beq_eq_false rfl), (fun _ => (vA_cat (mg Γ) l0)), ⟨(Nat.ne_of_beq_eq_false rfl), (fun _ => (vA_cat (mg Γ) l2)), ⟨(Nat.ne_of_beq_eq_false rfl), (fun _ => (vA_cat (mg Γ) l3)), trivial⟩⟩⟩ ?_
  refine s_goto (tgt := 117) o dX18_prepare_150 (by decide) ?_
  refine r_to [(0, vA (mg Γ) l0), (2, vA (mg Γ) l2), (3, vA (mg Γ) l3), (4, vI (w32 (l4 + 1)))] [1, 2, 3, 0] rfl ?_
  exact s_back (w32_R _) rfl
noncomputable def b_X18_prepare_117b (rc : Rc) {A : Type} (k_153 : Int → Int → Int → Mo CH A) (l0 : Int) (l2 : Int) (l3 : Int) (l4 : Int) : Mo CH ((Int × Int × Int × Int) ⊕ A) :=
  bnd (aln l3) fun v1 =>
  if v1 ≤ l4 then
    lo (k_153 l0 l2 l3)
  else
    bnd (gf [118] 5 l0) fun v2 =>
    bnd (ald 7 v2 0) fun v3 =>
    bnd (gf [117] 1 v3) fun v4 =>
    if l4 = v4 then
      b_X18_prepare_146 rc k_153 l0 l2 l3 l4 0 l4 l3
    else
      b_X18_prepare_146 rc k_153 l0 l2 l3 l4 1 l4 l3
theorem sb_X18_prepare_117b {Γ : Gm} {ts : TS} {d : Nat} {rc : Rc} (hr : GR_prepare (mg Γ) ts (d + 205) rc) (o : Ok Γ "LazyForge$Let" cX18_prepare 7 (Option.none : Option Jvm.ClassFile.FieldType) (d + 206)) {A : Type} {K : A → CH → Prop} (k_153 : Int → Int → Int → Mo CH A) (hk_153 : ∀ (l0 : Int) (l2 : Int) (l3 : Int), Sx Γ (fun h => (h, ts)) K 153 [(0, vA (mg Γ) l0), (2, vA (mg Γ) l2), (3, vA (mg Γ) l3)] [] (k_153 l0 l2 l3)) (l0 : Int) (l2 : Int) (l3 : Int) (l4 : Int) (hl4 : R32 l4) : Sx Γ (fun h => (h, ts)) (KL Γ (fun h => (h, ts)) okb_X18_prepare_117 K 117 (lvb_X18_prepare_117 Γ) []) 117 [(0, vA (mg Γ) l0), (2, vA (mg Γ) l2), (3, vA (mg Γ) l3), (4, vI l4)] [] (b_X18_prepare_117b rc k_153 l0 l2 l3 l4) := by
  unfold b_X18_prepare_117b
  refine s_iload o dX18_prepare_117 3 rfl ?_
  refine s_aload_n o dX18_prepare_119 rfl 2 rfl ?_
  refine s_alen o dX18_prepare_120 (fun v1 hv1 => ?_)
  refine s_icmp_ge (tgt := 153) o dX18_prepare_121 (by decide) hl4 (rN hv1) ?_ ?_
  · refine r_to [(0, vA (mg Γ) l0), (2, vA (mg Γ) l2), (3, vA (mg Γ) l3)] [0, 1, 2] rfl ?_
    exact s_lo (hk_153 l0 l2 l3)
  · refine s_aload_n o dX18_prepare_124 rfl 2 rfl ?_
    refine s_iload o dX18_prepare_125 3 rfl ?_
    refine s_iload o dX18_prepare_127 3 rfl ?_
    refine s_aload_n o dX18_prepare_129 rfl 0 rfl ?_
    refine r_getf (vA (mg Γ)) rfl o cf_X18_names (Or.inl (lw_all_tbl q1335)) dX18_prepare_130 (fun v2 hv2 => ?_)
    refine s_iconst o dX18_prepare_133 ?_
    refine r_aald (kd := 7) o (by decide) rfl (r32 rfl) dX18_prepare_134 (fun v3 => ?_)
    refine r_getf vI rfl o cf_X17_number (Or.inr (Or.inl ⟨_, q1290⟩)) dX18_prepare_135 (fun v4 hv4 => ?_)
    refine s_icmp_eq (tgt := 145) o dX18_prepare_138 (by decide) hl4 hv4 ?_ ?_
    · refine s_iconst o dX18_prepare_145 ?_
      exact sb_X18_prepare_146 hr o k_153 hk_153 l0 l2 l3 l4 0 l4 l3 hl4 (Or.inl rfl) hl4
    · refine s_iconst o dX18_prepare_141 ?_
      refine s_goto (tgt := 146) o dX18_prepare_142 (by decide) ?_
      exact sb_X18_prepare_146 hr o k_153 hk_153 l0 l2 l3 l4 1 l4 l3 hl4 (Or.inr rfl) hl4
noncomputable def b_X18_prepare_117 (rc : Rc) {A : Type} (k_153 : Int → Int → Int → Mo CH A) (l0 : Int) (l2 : Int) (l3 : Int) (l4 : Int) : Mo CH A := Loop (fun x => b_X18_prepare_117b rc k_153 x.1 x.2.1 x.2.2.1 x.2.2.2) (l0, l2, l3, l4)
theorem sb_X18_prepare_117 {Γ : Gm} {ts : TS} {d : Nat} {rc : Rc} (hr : GR_prepare (mg Γ) ts (d + 205) rc) (o : Ok Γ "LazyForge$Let" cX18_prepare 7 (Option.none : Option Jvm.ClassFile.FieldType) (d + 206)) {A : Type} {K : A → CH → Prop} (k_153 : Int → Int → Int → Mo CH A) (hk_153 : ∀ (l0 : Int) (l2 : Int) (l3 : Int), Sx Γ (fun h => (h, ts)) K 153 [(0, vA (mg Γ) l0), (2, vA (mg Γ) l2), (3, vA (mg Γ) l3)] [] (k_153 l0 l2 l3)) (l0 : Int) (l2 : Int) (l3 : Int) (l4 : Int) (hl4 : R32 l4) : Sx Γ (fun h => (h, ts)) K 117 [(0, vA (mg Γ) l0), (2, vA (mg Γ) l2), (3, vA (mg Γ) l3), (4, vI l4)] [] (b_X18_prepare_117 rc k_153 l0 l2 l3 l4) :=
  s_loop okb_X18_prepare_117 (lvb_X18_prepare_117 Γ) (fun x hx => sb_X18_prepare_117b hr o k_153 hk_153 x.1 x.2.1 x.2.2.1 x.2.2.2 hx) (x := (l0, l2, l3, l4)) hl4
noncomputable def b_X18_prepare_190 (rc : Rc)  (k0 : Int) (k1 : Int) (k2 : Int) : Mo CH Int :=
  bnd (pf [116] 7 k2 (w32 (k1 + k0))) fun _ =>
  pr 0
theorem sb_X18_prepare_190 {Γ : Gm} {ts : TS} {d : Nat} {rc : Rc} (hr : GR_prepare (mg Γ) ts (d + 205) rc) (o : Ok Γ "LazyForge$Let" cX18_prepare 7 (Option.none : Option Jvm.ClassFile.FieldType) (d + 206))   (k0 : Int) (k1 : Int) (k2 : Int) (hk0 : rg .boolean k0) (hk1 : R32 k1) : Sx Γ (fun h => (h, ts)) (fun a s => mt Γ = (0, a, ((s, ts) : Wd))) 190 [] [vI k0, vI k1, vA (mg Γ) k2] (b_X18_prepare_190 rc k0 k1 k2) := by
  unfold b_X18_prepare_190
  refine s_iadd o dX18_prepare_190 ?_
  refine r_putf vI rfl o cf_X16_needed (Or.inr (Or.inl ⟨_, q1162⟩)) dX18_prepare_191 (Or.inl rfl) (w32_R _) ty_int ?_
  exact s_vret o rfl dX18_prepare_194 (fun _ hh => hh)
noncomputable def b_X18_prepare_170 (rc : Rc)  (l0 : Int) (l2 : Int) (k0 : Int) (k1 : Int) : Mo CH Int :=
  bnd (pf [118] 8 k1 k0) fun _ =>
  bnd (gf [116] 7 l2) fun v1 =>
  bnd (gf [118] 8 l0) fun v2 =>
  if v2 = 0 then
    b_X18_prepare_190 rc 0 v1 l2
  else
    b_X18_prepare_190 rc 1 v1 l2
theorem sb_X18_prepare_170 {Γ : Gm} {ts : TS} {d : Nat} {rc : Rc} (hr : GR_prepare (mg Γ) ts (d + 205) rc) (o : Ok Γ "LazyForge$Let" cX18_prepare 7 (Option.none : Option Jvm.ClassFile.FieldType) (d + 206))   (l0 : Int) (l2 : Int) (k0 : Int) (k1 : Int) (hk0 : rg .boolean k0) : Sx Γ (fun h => (h, ts)) (fun a s => mt Γ = (0, a, ((s, ts) : Wd))) 170 [(0, vA (mg Γ) l0), (2, vA (mg Γ) l2)] [vI k0, vA (mg Γ) k1] (b_X18_prepare_170 rc l0 l2 k0 k1) := by
  unfold b_X18_prepare_170
  refine r_putf vI rfl o cf_X18_needed (Or.inl (lw_all_tbl q1338)) dX18_prepare_170 (Or.inl rfl) hk0 ty_boolean ?_
  refine s_aload_n o dX18_prepare_173 rfl 1 rfl ?_
  refine s_dup o dX18_prepare_174 (vA_cat (mg Γ) l2) ?_
  refine r_getf vI rfl o cf_X16_needed (Or.inr (Or.inl ⟨_, q1162⟩)) dX18_prepare_175 (fun v1 hv1 => ?_)
  refine s_aload_n o dX18_prepare_178 rfl 0 rfl ?_
  refine r_getf vI rfl o cf_X18_needed (Or.inl (lw_all_tbl q1338)) dX18_prepare_179 (fun v2 hv2 => ?_)
  refine s_if_eq (tgt := 189) o dX18_prepare_182 (by decide) (rZ hv2) ?_ ?_
  · refine s_iconst o dX18_prepare_189 ?_
    refine r_to [] [] rfl ?_
    exact sb_X18_prepare_190 hr o 0 v1 l2 (Or.inl rfl) hv1
  · refine s_iconst o dX18_prepare_185 ?_
    refine s_goto (tgt := 190) o dX18_prepare_186 (by decide) ?_
    refine r_to [] [] rfl ?_
    exact sb_X18_prepare_190 hr o 1 v1 l2 (Or.inr rfl) hv1
noncomputable def b_X18_prepare (rc : Rc) (l0 : Int) (l1 : Int) (l2 : Int) : Mo CH Int :=
  bnd (gf [118] 6 l0) fun v1 =>
  bnd (aln v1) fun v2 =>
  b_X18_prepare_12 rc
    (fun v3 v4 v5 => bnd (gf [118] 7 v3) fun v6 =>
  bnd (rc 0 v6 v4 v5 0 0) fun _ =>
  bnd (v_X18_mayWait v3 v4 v5) fun _ =>
  bnd (gf [118] 5 v3) fun v7 =>
  bnd (aln v7) fun v8 =>
  if v8 ≤ 1 then
    bnd (gf [115] 2 v4) fun v9 =>
    b_X18_prepare_71 rc
      (fun v10 v11 v12 => bnd (gf [118] 6 v10) fun v13 =>
    bnd (ald 5 v13 0) fun v14 =>
    bnd (v_X4_uses v14 v12) fun _ =>
    bnd (gf [118] 5 v10) fun v15 =>
    bnd (ald 7 v15 0) fun v16 =>
    bnd (gf [117] 1 v16) fun v17 =>
    bnd (ald 3 v12 v17) fun v18 =>
    if v18 = 0 then
      b_X18_prepare_117 rc
        (fun v19 v20 v21 => bnd (gf [118] 7 v19) fun v22 =>
      bnd (v_X4_least v22 v21) fun v23 =>
      if ¬ v23 = 0 then
        b_X18_prepare_170 rc v19 v20 0 v19
      else
        b_X18_prepare_170 rc v19 v20 1 v19) v10 v11 v12 0
    else
      pr 0) v3 v5 v9 0
  else
    pr 0) l0 l1 l2 v1 v2 0
theorem sb_X18_prepare (g : gC) (d : Nat) (ts : TS) (rc : Rc) (hr : GR_prepare g ts (d + 205) rc) (l0 : Int) (l1 : Int) (l2 : Int) : SF g yX18_prepare (Cond.code yX18_prepare cX18_prepare 7 (Option.none : Option Jvm.ClassFile.FieldType)) (Option.none : Option Jvm.ClassFile.FieldType) (d + 206) [vA g l0, vA g l1, vA g l2] (fun h => (h, ts)) (b_X18_prepare rc l0 l1 l2) := by
  refine SF.of (lv := [(0, vA g l0), (1, vA g l1), (2, vA g l2)]) (by decide) (wt_A (wt_A (wt_A wt_0))) rfl (by simp only [la_A, la_I, la_J, la_0]) (fun Γ hg hnm o => ?_)
  subst hg
  have o : Ok Γ "LazyForge$Let" cX18_prepare 7 (Option.none : Option Jvm.ClassFile.FieldType) (d + 206) := o
  unfold b_X18_prepare
  refine s_aload_n o dX18_prepare_0 rfl 0 rfl ?_
  refine r_getf (vA (mg Γ)) rfl o cf_X18_bound (Or.inl (lw_all_tbl q1336)) dX18_prepare_1 (fun v1 hv1 => ?_)
  refine r_astore_n o dX18_prepare_4 rfl rfl ⟨(Nat.ne_of_beq_eq_false rfl), (fun _ => (vA_cat (mg Γ) l0)), ⟨(Nat.ne_of_beq_eq_false rfl), (fun _ => (vA_cat (mg Γ) l1)), ⟨(Nat.ne_of_beq_eq_false rfl), (fun _ => (vA_cat (mg Γ) l2)), trivial⟩⟩⟩ ?_
  refine s_aload_n o dX18_prepare_5 rfl 0 rfl ?_
  refine s_alen o dX18_prepare_6 (fun v2 hv2 => ?_)
  refine r_istore o dX18_prepare_7 rfl ⟨(Nat.ne_of_beq_eq_false rfl), (fun _ => (vA_cat (mg Γ) v1)), ⟨(Nat.ne_of_beq_eq_false rfl), (fun _ => (vA_cat (mg Γ) l0)), ⟨(Nat.ne_of_beq_eq_false rfl), (fun _ => (vA_cat (mg Γ) l1)), ⟨(Nat.ne_of_beq_eq_false rfl), (fun _ => (vA_cat (mg Γ) l2)), trivial⟩⟩⟩⟩ ?_
  refine s_iconst o dX18_prepare_9 ?_
  refine r_istore o dX18_prepare_10 rfl ⟨(Nat.ne_of_beq_eq_false rfl), (fun _ => rfl), ⟨(Nat.ne_of_beq_eq_false rfl), (fun _ => (vA_cat (mg Γ) v1)), ⟨(Nat.ne_of_beq_eq_false rfl), (fun _ => (vA_cat (mg Γ) l0)), ⟨(Nat.ne_of_beq_eq_false rfl), (fun _ => (vA_cat (mg Γ) l1)), ⟨(Nat.ne_of_beq_eq_false rfl), (fun _ => (vA_cat (mg Γ) l2)), trivial⟩⟩⟩⟩⟩ ?_
  refine r_to [(0, vA (mg Γ) l0), (1, vA (mg Γ) l1), (2, vA (mg Γ) l2), (3, vA (mg Γ) v1), (4, vI v2), (5, vI 0)] [3, 4, 5, 2, 1, 0] rfl ?_
  refine sb_X18_prepare_12 hr o _ ?_ l0 l1 l2 v1 v2 0 (rN hv2) (r32 rfl)
  · intro v3 v4 v5
    refine s_aload_n o dX18_prepare_38 rfl 0 rfl ?_
    refine r_getf (vA (mg Γ)) rfl o cf_X18_body (Or.inl (lw_all_tbl q1337)) dX18_prepare_39 (fun v6 hv6 => ?_)
    refine s_aload_n o dX18_prepare_42 rfl 1 rfl ?_
    refine s_aload_n o dX18_prepare_43 rfl 2 rfl ?_
    refine s_cu (d := d + 205) (As := [vA (mg Γ) v4, vA (mg Γ) v5]) (st := []) (owner := "LazyForge$Part") o (gr_prepare_0 hr v6 v4 v5) rfl (lw_all_tbl q1843) (lw_all_tbl q1745) (Or.inl q1744) ⟨by decide, by decide⟩ (by decide +kernel) wt_0 rfl dX18_prepare_44 rfl (rs := fun _ => []) (fun _ => rfl) (fun _ _ => ?_)
    refine s_aload_n o dX18_prepare_47 rfl 0 rfl ?_
    refine s_aload_n o dX18_prepare_48 rfl 1 rfl ?_
    refine s_aload_n o dX18_prepare_49 rfl 2 rfl ?_
    refine s_cu (d := d + 205) (As := [vA (mg Γ) v4, vA (mg Γ) v5]) (st := []) (owner := "LazyForge$Part") o (sv_X18_mayWait (mg Γ) (d + 4) ts v3 v4 v5) rfl (lw_all_tbl q1862) (lw_all_tbl q1863) (Or.inl q1760) ⟨by decide, by decide⟩ (by decide +kernel) wt_0 rfl dX18_prepare_50 rfl (rs := fun _ => []) (fun _ => rfl) (fun _ _ => ?_)
    refine s_aload_n o dX18_prepare_53 rfl 0 rfl ?_
    refine r_getf (vA (mg Γ)) rfl o cf_X18_names (Or.inl (lw_all_tbl q1335)) dX18_prepare_54 (fun v7 hv7 => ?_)
    refine s_alen o dX18_prepare_57 (fun v8 hv8 => ?_)
    refine s_iconst o dX18_prepare_58 ?_
    refine s_icmp_le (tgt := 63) o dX18_prepare_59 (by decide) (rN hv8) (r32 rfl) ?_ ?_
    · refine s_aload_n o dX18_prepare_63 rfl 1 rfl ?_
      refine r_getf (vA (mg Γ)) rfl o cf_X15_some (Or.inr (Or.inl ⟨_, q1066⟩)) dX18_prepare_64 (fun v9 hv9 => ?_)
      refine r_astore_n o dX18_prepare_67 rfl rfl ⟨(Nat.ne_of_beq_eq_false rfl), (fun _ => (vA_cat (mg Γ) v3)), ⟨(Nat.ne_of_beq_eq_false rfl), (fun _ => (vA_cat (mg Γ) v4)), ⟨(Nat.ne_of_beq_eq_false rfl), (fun _ => (vA_cat (mg Γ) v5)), trivial⟩⟩⟩ ?_
      refine s_iconst o dX18_prepare_68 ?_
      refine r_istore o dX18_prepare_69 rfl ⟨(Nat.ne_of_beq_eq_false rfl), (fun _ => (vA_cat (mg Γ) v9)), ⟨(Nat.ne_of_beq_eq_false rfl), (fun _ => (vA_cat (mg Γ) v3)), ⟨(Nat.ne_of_beq_eq_false rfl), (fun _ => (vA_cat (mg Γ) v4)), ⟨(Nat.ne_of_beq_eq_false rfl), (fun _ => (vA_cat (mg Γ) v5)), trivial⟩⟩⟩⟩ ?_
      refine r_to [(0, vA (mg Γ) v3), (2, vA (mg Γ) v5), (3, vA (mg Γ) v9), (4, vI 0)] [2, 4, 1, 0] rfl ?_
      refine sb_X18_prepare_71 hr o _ ?_ v3 v5 v9 0 (r32 rfl)
      · intro v10 v11 v12
        refine s_aload_n o dX18_prepare_89 rfl 0 rfl ?_
        refine r_getf (vA (mg Γ)) rfl o cf_X18_bound (Or.inl (lw_all_tbl q1336)) dX18_prepare_90 (fun v13 hv13 => ?_)
        refine s_iconst o dX18_prepare_93 ?_
        refine r_aald (kd := 5) o (by decide) rfl (r32 rfl) dX18_prepare_94 (fun v14 => ?_)
        refine s_aload_n o dX18_prepare_95 rfl 2 rfl ?_
        refine s_cu (d := d + 205) (As := [vA (mg Γ) v12]) (st := []) (owner := "LazyForge$Part") o (sv_X4_uses (mg Γ) (d + 5) ts v14 v12) rfl (lw_all_tbl q1781) (lw_all_tbl q1766) (Or.inl q1765) ⟨by decide, by decide⟩ (by decide +kernel) wt_0 rfl dX18_prepare_96 rfl (rs := fun _ => []) (fun _ => rfl) (fun _ _ => ?_)
        refine s_aload_n o dX18_prepare_99 rfl 2 rfl ?_
        refine s_aload_n o dX18_prepare_100 rfl 0 rfl ?_
        refine r_getf (vA (mg Γ)) rfl o cf_X18_names (Or.inl (lw_all_tbl q1335)) dX18_prepare_101 (fun v15 hv15 => ?_)
        refine s_iconst o dX18_prepare_104 ?_
        refine r_aald (kd := 7) o (by decide) rfl (r32 rfl) dX18_prepare_105 (fun v16 => ?_)
        refine r_getf vI rfl o cf_X17_number (Or.inr (Or.inl ⟨_, q1290⟩)) dX18_prepare_106 (fun v17 hv17 => ?_)
        refine r_zald o hv17 dX18_prepare_109 (fun v18 hv18 => ?_)
        refine s_if_eq (tgt := 114) o dX18_prepare_110 (by decide) (rZ hv18) ?_ ?_
        · refine s_iconst o dX18_prepare_114 ?_
          refine r_istore o dX18_prepare_115 rfl ⟨(Nat.ne_of_beq_eq_false rfl), (fun _ => (vA_cat (mg Γ) v10)), ⟨(Nat.ne_of_beq_eq_false rfl), (fun _ => (vA_cat (mg Γ) v11)), ⟨(Nat.ne_of_beq_eq_false rfl), (fun _ => (vA_cat (mg Γ) v12)), trivial⟩⟩⟩ ?_
          refine r_to [(0, vA (mg Γ) v10), (2, vA (mg Γ) v11), (3, vA (mg Γ) v12), (4, vI 0)] [1, 2, 3, 0] rfl ?_
          refine sb_X18_prepare_117 hr o _ ?_ v10 v11 v12 0 (r32 rfl)
          · intro v19 v20 v21
            refine s_aload_n o dX18_prepare_153 rfl 0 rfl ?_
            refine s_aload_n o dX18_prepare_154 rfl 0 rfl ?_
            refine r_getf (vA (mg Γ)) rfl o cf_X18_body (Or.inl (lw_all_tbl q1337)) dX18_prepare_155 (fun v22 hv22 => ?_)
            refine s_aload_n o dX18_prepare_158 rfl 2 rfl ?_
            refine s_cu (d := d + 205) (As := [vA (mg Γ) v21]) (st := [vA (mg Γ) v19]) (owner := "LazyForge$Part") o (sv_X4_least (mg Γ) (d + 1) ts v22 v21) rfl (lw_all_tbl q1865) (lw_all_tbl q1644) (Or.inr ⟨_, _, _, (lw_all_tbl q1643), (lw_all_tbl q1659)⟩) ⟨by decide, by decide⟩ (by decide +kernel) (wt_A wt_0) rfl dX18_prepare_159 rfl (rs := fun r => [vI r, vA (mg Γ) v19]) (fun _ => rfl) (fun v23 hv23 => ?_)
            refine s_if_ne (tgt := 169) o dX18_prepare_162 (by decide) (rZ (hv23 _ rfl)) ?_ ?_
            · refine s_iconst o dX18_prepare_169 ?_
              refine r_to [(0, vA (mg Γ) v19), (2, vA (mg Γ) v20)] [0, 1] rfl ?_
              exact sb_X18_prepare_170 hr o v19 v20 0 v19 (Or.inl rfl)
            · refine s_iconst o dX18_prepare_165 ?_
              refine s_goto (tgt := 170) o dX18_prepare_166 (by decide) ?_
              refine r_to [(0, vA (mg Γ) v19), (2, vA (mg Γ) v20)] [0, 1] rfl ?_
              exact sb_X18_prepare_170 hr o v19 v20 1 v19 (Or.inr rfl)
        · exact s_vret o rfl dX18_prepare_113 (fun _ hh => hh)
    · exact s_vret o rfl dX18_prepare_62 (fun _ hh => hh)
abbrev okb_X25_prepare_12 (x : Int × Int × Int × Int × Int) : Prop := R32 x.2.2.2.1 ∧ R32 x.2.2.2.2
abbrev lvb_X25_prepare_12 (Γ : Gm) (x : Int × Int × Int × Int × Int) : List (Nat × Value) := [(1, vA (mg Γ) x.1), (2, vA (mg Γ) x.2.1), (3, vA (mg Γ) x.2.2.1), (4, vI x.2.2.2.1), (5, vI x.2.2.2.2)]
noncomputable def b_X25_prepare_12b (rc : Rc) {A : Type} (k_38 : Mo CH A) (l1 : Int) (l2 : Int) (l3 : Int) (l4 : Int) (l5 : Int) : Mo CH ((Int × Int × Int × Int × Int) ⊕ A) :=
  if l4 ≤ l5 then
    lo k_38
  else
    bnd (ald 5 l3 l5) fun v1 =>
    bnd (rc 0 v1 l1 l2 0 0) fun _ =>
    pr (.inl (l1, l2, l3, l4, (w32 (l5 + 1))))
theorem sb_X25_prepare_12b {Γ : Gm} {ts : TS} {d : Nat} {rc : Rc} (hr : GR_prepare (mg Γ) ts (d + 205) rc) (o : Ok Γ "LazyForge$Made" cX25_prepare 7 (Option.none : Option Jvm.ClassFile.FieldType) (d + 206)) {A : Type} {K : A → CH → Prop} (k_38 : Mo CH A) (hk_38 : Sx Γ (fun h => (h, ts)) K 38 [] [] (k_38)) (l1 : Int) (l2 : Int) (l3 : Int) (l4 : Int) (l5 : Int) (hl4 : R32 l4) (hl5 : R32 l5) : Sx Γ (fun h => (h, ts)) (KL Γ (fun h => (h, ts)) okb_X25_prepare_12 K 12 (lvb_X25_prepare_12 Γ) []) 12 [(1, vA (mg Γ) l1), (2, vA (mg Γ) l2), (3, vA (mg Γ) l3), (4, vI l4), (5, vI l5)] [] (b_X25_prepare_12b rc k_38 l1 l2 l3 l4 l5) := by
  unfold b_X25_prepare_12b
  refine s_iload o dX25_prepare_12 4 rfl ?_
  refine s_iload o dX25_prepare_14 3 rfl ?_
  refine s_icmp_ge (tgt := 38) o dX25_prepare_16 (by decide) hl5 hl4 ?_ ?_
  · refine r_to [] [] rfl ?_
    exact s_lo hk_38
  · refine s_aload_n o dX25_prepare_19 rfl 2 rfl ?_
    refine s_iload o dX25_prepare_20 4 rfl ?_
    refine r_aald (kd := 5) o (by decide) rfl hl5 dX25_prepare_22 (fun v1 => ?_)
    refine r_astore o dX25_prepare_23 rfl ⟨(Nat.ne_of_beq_eq_false rfl), (fun _ => (vA_cat (mg Γ) l1)), ⟨(Nat.ne_of_beq_eq_false rfl), (fun _ => (vA_cat (mg Γ) l2)), ⟨(Nat.ne_of_beq_eq_false rfl), (fun _ => (vA_cat (mg Γ) l3)), ⟨(Nat.ne_of_beq_eq_false rfl), (fun _ => rfl), ⟨(Nat.ne_of_beq_eq_false rfl), (fun _ => rfl), trivial⟩⟩⟩⟩⟩ ?_
    refine s_aload o dX25_prepare_25 0 rfl ?_
    refine s_aload_n o dX25_prepare_27 rfl 1 rfl ?_
    refine s_aload_n o dX25_prepare_28 rfl 2 rfl ?_
    refine s_cu (d := d + 205) (As := [vA (mg Γ) l1, vA (mg Γ) l2]) (st := []) (owner := "LazyForge$Part") o (gr_prepare_0 hr v1 l1 l2) rfl (lw_all_tbl q1848) (lw_all_tbl q1745) (Or.inl q1744) ⟨by decide, by decide⟩ (by decide +kernel) wt_0 rfl dX25_prepare_29 rfl (rs := fun _ => []) (fun _ => rfl) (fun _ _ => ?_)
    refine r_iinc (j := 5) o dX25_prepare_32 rfl rfl [(6, vA (mg Γ) v1), (1, vA (mg Γ) l1), (2, vA (mg Γ) l2), (3, vA (mg Γ) l3), (4, vI l4)] [0, 1, 2, 3, 4] rfl ⟨(Nat.ne_of_beq_eq_false rfl), (fun _ => (vA_cat (mg Γ) v1)), ⟨(Nat.ne_of_beq_eq_false rfl), (fun _ => (vA_cat (mg Γ) l1)), ⟨(Nat.ne_of_beq_eq_false rfl), (fun _ => (vA_cat (mg Γ) l2)), ⟨(Nat.ne_of_beq_eq_false rfl), (fun _ => (vA_cat (mg Γ) l3)), ⟨(Nat.ne_of_beq_eq_false rfl), (fun _ => rfl), trivial⟩⟩⟩⟩⟩ ?_
    refine s_goto (tgt := 12) o dX25_prepare_35 (by decide) ?_
    refine r_to [(1, vA (mg Γ) l1), (2, vA (mg Γ) l2), (3, vA (mg Γ) l3), (4, vI l4), (5, vI (w32 (l5 + 1)))] [2, 3, 4, 5, 0] rfl ?_
    exact s_back (⟨hl4, (w32_R _)⟩) rfl
noncomputable def b_X25_prepare_12 (rc : Rc) {A : Type} (k_38 : Mo CH A) (l1 : Int) (l2 : Int) (l3 : Int) (l4 : Int) (l5 : Int) : Mo CH A := Loop (fun x => b_X25_prepare_12b rc k_38 x.1 x.2.1 x.2.2.1 x.2.2.2.1 x.2.2.2.2) (l1, l2, l3, l4, l5)
theorem sb_X25_prepare_12 {Γ : Gm} {ts : TS} {d : Nat} {rc : Rc} (hr : GR_prepare (mg Γ) ts (d + 205) rc) (o : Ok Γ "LazyForge$Made" cX25_prepare 7 (Option.none : Option Jvm.ClassFile.FieldType) (d + 206)) {A : Type} {K : A → CH → Prop} (k_38 : Mo CH A) (hk_38 : Sx Γ (fun h => (h, ts)) K 38 [] [] (k_38)) (l1 : Int) (l2 : Int) (l3 : Int) (l4 : Int) (l5 : Int) (hl4 : R32 l4) (hl5 : R32 l5) : Sx Γ (fun h => (h, ts)) K 12 [(1, vA (mg Γ) l1), (2, vA (mg Γ) l2), (3, vA (mg Γ) l3), (4, vI l4), (5, vI l5)] [] (b_X25_prepare_12 rc k_38 l1 l2 l3 l4 l5) :=
  s_loop okb_X25_prepare_12 (lvb_X25_prepare_12 Γ) (fun x hx => sb_X25_prepare_12b hr o k_38 hk_38 x.1 x.2.1 x.2.2.1 x.2.2.2.1 x.2.2.2.2 hx.1 hx.2) (x := (l1, l2, l3, l4, l5)) ⟨hl4, hl5⟩
noncomputable def b_X25_prepare (rc : Rc) (l0 : Int) (l1 : Int) (l2 : Int) : Mo CH Int :=
  bnd (gf [125] 6 l0) fun v1 =>
  bnd (aln v1) fun v2 =>
  b_X25_prepare_12 rc
    (pr 0) l1 l2 v1 v2 0
theorem sb_X25_prepare (g : gC) (d : Nat) (ts : TS) (rc : Rc) (hr : GR_prepare g ts (d + 205) rc) (l0 : Int) (l1 : Int) (l2 : Int) : SF g yX25_prepare (Cond.code yX25_prepare cX25_prepare 7 (Option.none : Option Jvm.ClassFile.FieldType)) (Option.none : Option Jvm.ClassFile.FieldType) (d + 206) [vA g l0, vA g l1, vA g l2] (fun h => (h, ts)) (b_X25_prepare rc l0 l1 l2) := by
  refine SF.of (lv := [(0, vA g l0), (1, vA g l1), (2, vA g l2)]) (by decide) (wt_A (wt_A (wt_A wt_0))) rfl (by simp only [la_A, la_I, la_J, la_0]) (fun Γ hg hnm o => ?_)
  subst hg
  have o : Ok Γ "LazyForge$Made" cX25_prepare 7 (Option.none : Option Jvm.ClassFile.FieldType) (d + 206) := o
  unfold b_X25_prepare
  refine s_aload_n o dX25_prepare_0 rfl 0 rfl ?_
  refine r_getf (vA (mg Γ)) rfl o cf_X25_fields (Or.inl (lw_all_tbl q1569)) dX25_prepare_1 (fun v1 hv1 => ?_)
  refine r_astore_n o dX25_prepare_4 rfl rfl ⟨(Nat.ne_of_beq_eq_false rfl), (fun _ => (vA_cat (mg Γ) l0)), ⟨(Nat.ne_of_beq_eq_false rfl), (fun _ => (vA_cat (mg Γ) l1)), ⟨(Nat.ne_of_beq_eq_false rfl), (fun _ => (vA_cat (mg Γ) l2)), trivial⟩⟩⟩ ?_
  refine s_aload_n o dX25_prepare_5 rfl 0 rfl ?_
  refine s_alen o dX25_prepare_6 (fun v2 hv2 => ?_)
  refine r_istore o dX25_prepare_7 rfl ⟨(Nat.ne_of_beq_eq_false rfl), (fun _ => (vA_cat (mg Γ) v1)), ⟨(Nat.ne_of_beq_eq_false rfl), (fun _ => (vA_cat (mg Γ) l0)), ⟨(Nat.ne_of_beq_eq_false rfl), (fun _ => (vA_cat (mg Γ) l1)), ⟨(Nat.ne_of_beq_eq_false rfl), (fun _ => (vA_cat (mg Γ) l2)), trivial⟩⟩⟩⟩ ?_
  refine s_iconst o dX25_prepare_9 ?_
  refine r_istore o dX25_prepare_10 rfl ⟨(Nat.ne_of_beq_eq_false rfl), (fun _ => rfl), ⟨(Nat.ne_of_beq_eq_false rfl), (fun _ => (vA_cat (mg Γ) v1)), ⟨(Nat.ne_of_beq_eq_false rfl), (fun _ => (vA_cat (mg Γ) l0)), ⟨(Nat.ne_of_beq_eq_false rfl), (fun _ => (vA_cat (mg Γ) l1)), ⟨(Nat.ne_of_beq_eq_false rfl), (fun _ => (vA_cat (mg Γ) l2)), trivial⟩⟩⟩⟩⟩ ?_
  refine r_to [(1, vA (mg Γ) l1), (2, vA (mg Γ) l2), (3, vA (mg Γ) v1), (4, vI v2), (5, vI 0)] [4, 5, 2, 1, 0] rfl ?_
  refine sb_X25_prepare_12 hr o _ ?_ l1 l2 v1 v2 0 (rN hv2) (r32 rfl)
  · exact s_vret o rfl dX25_prepare_38 (fun _ hh => hh)
noncomputable def v_X4_prepare_b (rc : Rc) (l0 : Int) (l1 : Int) (l2 : Int) : Mo CH Int := dsp l0 [([106, 107, 108, 109, 110], c_X5_prepare l0 l1 l2), ([118], b_X18_prepare rc l0 l1 l2), ([119], c_X19_prepare l0 l1 l2), ([120], c_X20_prepare l0 l1 l2), ([121], b_X21_prepare rc l0 l1 l2), ([122], b_X22_prepare rc l0 l1 l2), ([123], b_X23_prepare rc l0 l1 l2), ([124], c_X24_prepare l0 l1 l2), ([125], b_X25_prepare rc l0 l1 l2), ([126], c_X26_prepare l0 l1 l2)]
theorem sv_X4_prepare_b (g : gC) (d : Nat) (ts : TS) (rc : Rc) (hr : GR_prepare g ts (d + 205) rc) (l0 : Int) (l1 : Int) (l2 : Int) : VR g ts ⟨"LazyForge$Part", "prepare", "(LLazyForge$Program;LLazyForge$Function;)V"⟩ none 2 (d + 206) l0 [vA g l1, vA g l2] (v_X4_prepare_b rc l0 l1 l2) := (VR.cons (x0 := ⟨"LazyForge$Part", "prepare", "(LLazyForge$Program;LLazyForge$Function;)V"⟩) ⟨⟨6, _, rfl, rfl, (lw_all_tbl q1891)⟩, ⟨⟨7, _, rfl, rfl, (lw_all_tbl q1885)⟩, ⟨⟨8, _, rfl, rfl, (lw_all_tbl q1746)⟩, ⟨⟨9, _, rfl, rfl, (lw_all_tbl q1882)⟩, ⟨⟨10, _, rfl, rfl, (lw_all_tbl q1884)⟩, trivial⟩⟩⟩⟩⟩ (lw_all_tbl q1747) mw_X5_prepare (sc_X5_prepare g (d + 206) ts l0 l1 l2) (VR.cons (x0 := ⟨"LazyForge$Part", "prepare", "(LLazyForge$Program;LLazyForge$Function;)V"⟩) ⟨⟨18, _, rfl, rfl, (lw_all_tbl q1886)⟩, trivial⟩ (lw_all_tbl q1841) mw_X18_prepare (sb_X18_prepare g d ts rc hr l0 l1 l2) (VR.cons (x0 := ⟨"LazyForge$Part", "prepare", "(LLazyForge$Program;LLazyForge$Function;)V"⟩) ⟨⟨19, _, rfl, rfl, (lw_all_tbl q1889)⟩, trivial⟩ (lw_all_tbl q1849) mw_X19_prepare (sc_X19_prepare g (d + 206) ts l0 l1 l2) (VR.cons (x0 := ⟨"LazyForge$Part", "prepare", "(LLazyForge$Program;LLazyForge$Function;)V"⟩) ⟨⟨20, _, rfl, rfl, (lw_all_tbl q1892)⟩, trivial⟩ (lw_all_tbl q1854) mw_X20_prepare (sc_X20_prepare g (d + 4) ts l0 l1 l2) (VR.cons (x0 := ⟨"LazyForge$Part", "prepare", "(LLazyForge$Program;LLazyForge$Function;)V"⟩) ⟨⟨21, _, rfl, rfl, (lw_all_tbl q1749)⟩, trivial⟩ (lw_all_tbl q1750) mw_X21_prepare (sb_X21_prepare g d ts rc hr l0 l1 l2) (VR.cons (x0 := ⟨"LazyForge$Part", "prepare", "(LLazyForge$Program;LLazyForge$Function;)V"⟩) ⟨⟨22, _, rfl, rfl, (lw_all_tbl q1881)⟩, trivial⟩ (lw_all_tbl q1753) mw_X22_prepare (sb_X22_prepare g d ts rc hr l0 l1 l2) (VR.cons (x0 := ⟨"LazyForge$Part", "prepare", "(LLazyForge$Program;LLazyForge$Function;)V"⟩) ⟨⟨23, _, rfl, rfl, (lw_all_tbl q1890)⟩, trivial⟩ (lw_all_tbl q1851) mw_X23_prepare (sb_X23_prepare g d ts rc hr l0 l1 l2) (VR.cons (x0 := ⟨"LazyForge$Part", "prepare", "(LLazyForge$Program;LLazyForge$Function;)V"⟩) ⟨⟨24, _, rfl, rfl, (lw_all_tbl q1887)⟩, trivial⟩ (lw_all_tbl q1844) mw_X24_prepare (sc_X24_prepare g (d + 206) ts l0 l1 l2) (VR.cons (x0 := ⟨"LazyForge$Part", "prepare", "(LLazyForge$Program;LLazyForge$Function;)V"⟩) ⟨⟨25, _, rfl, rfl, (lw_all_tbl q1888)⟩, trivial⟩ (lw_all_tbl q1846) mw_X25_prepare (sb_X25_prepare g d ts rc hr l0 l1 l2) (VR.cons (x0 := ⟨"LazyForge$Part", "prepare", "(LLazyForge$Program;LLazyForge$Function;)V"⟩) ⟨⟨26, _, rfl, rfl, (lw_all_tbl q1883)⟩, trivial⟩ (lw_all_tbl q1756) mw_X26_prepare (sc_X26_prepare g (d + 4) ts l0 l1 l2) VR.nil))))))))))
noncomputable def G_prepare (rc : Rc) : Rc := fun j a0 a1 a2 a3 a4 => match j with
  | 0 => v_X4_prepare_b rc a0 a1 a2
  | _ => no
noncomputable def R_prepare : Nat → Rc
  | 0 => fun _ _ _ _ _ _ => no
  | n + 1 => G_prepare (R_prepare n)
theorem G_prepare_ok (g : gC) (ts : TS) (d : Nat) (rc : Rc) (hr : GR_prepare g ts (d + 205) rc) : GR_prepare g ts (d + 206) (G_prepare rc) := (fun l0 l1 l2 => sv_X4_prepare_b g d ts rc hr l0 l1 l2)
theorem R_prepare_ok (g : gC) (ts : TS) : ∀ n d, GR_prepare g ts (d + 205 + n) (R_prepare n)
  | 0, d => (fun _ _ _ _ _ _ e => by cases e)
  | n + 1, d => by
    have h := R_prepare_ok g ts n d
    rw [show d + 205 + n = (d + n) + 205 by omega] at h
    have h := G_prepare_ok g ts _ _ h
    rw [show d + 205 + (n + 1) = (d + n) + 206 by omega]
    exact h
noncomputable def v_X4_prepare (l0 : Int) (l1 : Int) (l2 : Int) : Mo CH Int := R_prepare 200 0 l0 l1 l2 0 0
theorem sv_X4_prepare (g : gC) (d : Nat) (ts : TS) (l0 : Int) (l1 : Int) (l2 : Int) : VR g ts ⟨"LazyForge$Part", "prepare", "(LLazyForge$Program;LLazyForge$Function;)V"⟩ none 2 (d + 405) l0 [vA g l1, vA g l2] (v_X4_prepare l0 l1 l2) := by
  have h := R_prepare_ok g ts 200 d
  rw [Nat.add_assoc] at h
  exact gr_prepare_0 h l0 l1 l2
noncomputable def v_X25_has (l0 : Int) (l1 : Int) : Mo CH Int := dsp l0 [([125], c_X4_has l0 l1)]
theorem sv_X25_has (g : gC) (d : Nat) (ts : TS) (l0 : Int) (l1 : Int) : VR g ts ⟨"LazyForge$Made", "has", "(LLazyForge$Part;)V"⟩ none 1 (d + 1) l0 [vA g l1] (v_X25_has l0 l1) := (VR.cons (x0 := ⟨"LazyForge$Made", "has", "(LLazyForge$Part;)V"⟩) ⟨⟨25, _, rfl, rfl, (lw_all_tbl q1567)⟩, trivial⟩ (lw_all_tbl q1332) mw_X4_has (sc_X4_has g (d + 0) ts l0 l1) VR.nil)
theorem dX25_init_0 : decode cX25_init 0 = .ok (.aload_n 0, 1) := by decide +kernel
theorem dX25_init_1 : decode cX25_init 1 = .ok (.invokespecial 3, 3) := by decide +kernel
theorem dX25_init_4 : decode cX25_init 4 = .ok (.aload_n 0, 1) := by decide +kernel
theorem dX25_init_5 : decode cX25_init 5 = .ok (.iload_n 1, 1) := by decide +kernel
theorem dX25_init_6 : decode cX25_init 6 = .ok (.putfield 9, 3) := by decide +kernel
theorem dX25_init_9 : decode cX25_init 9 = .ok (.aload_n 0, 1) := by decide +kernel
theorem dX25_init_10 : decode cX25_init 10 = .ok (.aload_n 2, 1) := by decide +kernel
theorem dX25_init_11 : decode cX25_init 11 = .ok (.putfield 15, 3) := by decide +kernel
theorem dX25_init_14 : decode cX25_init 14 = .ok (.aload_n 2, 1) := by decide +kernel
theorem dX25_init_15 : decode cX25_init 15 = .ok (.astore_n 3, 1) := by decide +kernel
theorem dX25_init_16 : decode cX25_init 16 = .ok (.aload_n 3, 1) := by decide +kernel
theorem dX25_init_17 : decode cX25_init 17 = .ok (.arraylength, 1) := by decide +kernel
theorem dX25_init_18 : decode cX25_init 18 = .ok (.istore 4, 2) := by decide +kernel
theorem dX25_init_20 : decode cX25_init 20 = .ok (.iconst 0, 1) := by decide +kernel
theorem dX25_init_21 : decode cX25_init 21 = .ok (.istore 5, 2) := by decide +kernel
theorem dX25_init_23 : decode cX25_init 23 = .ok (.iload 5, 2) := by decide +kernel
theorem dX25_init_25 : decode cX25_init 25 = .ok (.iload 4, 2) := by decide +kernel
theorem dX25_init_27 : decode cX25_init 27 = .ok (.if_icmp .ge 21, 3) := by decide +kernel
theorem dX25_init_30 : decode cX25_init 30 = .ok (.aload_n 3, 1) := by decide +kernel
theorem dX25_init_31 : decode cX25_init 31 = .ok (.iload 5, 2) := by decide +kernel
theorem dX25_init_33 : decode cX25_init 33 = .ok (.aaload, 1) := by decide +kernel
theorem dX25_init_34 : decode cX25_init 34 = .ok (.astore 6, 2) := by decide +kernel
theorem dX25_init_36 : decode cX25_init 36 = .ok (.aload_n 0, 1) := by decide +kernel
theorem dX25_init_37 : decode cX25_init 37 = .ok (.aload 6, 2) := by decide +kernel
theorem dX25_init_39 : decode cX25_init 39 = .ok (.invokevirtual 19, 3) := by decide +kernel
theorem dX25_init_42 : decode cX25_init 42 = .ok (.iinc 5 1, 3) := by decide +kernel
theorem dX25_init_45 : decode cX25_init 45 = .ok (.goto (-22), 3) := by decide +kernel
theorem dX25_init_48 : decode cX25_init 48 = .ok (.return_, 1) := by decide +kernel
theorem mw_X25_init : MW yX25_init (Cond.code yX25_init cX25_init 7 (Option.none : Option Jvm.ClassFile.FieldType)) cX25_init 7 (Option.none : Option Jvm.ClassFile.FieldType) 2 := ⟨rfl, ⟨(lw_all_tbl q1563), rfl, (lw_all_tbl q205)⟩, rfl, ⟨by decide, by decide⟩, by decide +kernel⟩
abbrev okc_X25_init_23 (x : Int × Int × Int × Int) : Prop := 0 < x.1 ∧ R32 x.2.2.1 ∧ R32 x.2.2.2
abbrev lvc_X25_init_23 (Γ : Gm) (x : Int × Int × Int × Int) : List (Nat × Value) := [(0, vA (mg Γ) x.1), (3, vA (mg Γ) x.2.1), (4, vI x.2.2.1), (5, vI x.2.2.2)]
noncomputable def c_X25_init_23b {A : Type} (k_48 : Mo CH A) (l0 : Int) (l3 : Int) (l4 : Int) (l5 : Int) : Mo CH ((Int × Int × Int × Int) ⊕ A) :=
  if l4 ≤ l5 then
    lo k_48
  else
    bnd (ald 5 l3 l5) fun v1 =>
    bnd (v_X25_has l0 v1) fun _ =>
    pr (.inl (l0, l3, l4, (w32 (l5 + 1))))
theorem sc_X25_init_23b {Γ : Gm} {ts : TS} {d : Nat} (hnm : (xMe (mx Γ)).name = "<init>") (o : Ok Γ "LazyForge$Made" cX25_init 7 (Option.none : Option Jvm.ClassFile.FieldType) (d + 2)) {A : Type} {K : A → CH → Prop} (k_48 : Mo CH A) (hk_48 : Sx Γ (fun h => (h, ts)) K 48 [] [] (k_48)) (l0 : Int) (l3 : Int) (l4 : Int) (l5 : Int) (hl0 : 0 < l0) (hl4 : R32 l4) (hl5 : R32 l5) : Sx Γ (fun h => (h, ts)) (KL Γ (fun h => (h, ts)) okc_X25_init_23 K 23 (lvc_X25_init_23 Γ) []) 23 [(0, vA (mg Γ) l0), (3, vA (mg Γ) l3), (4, vI l4), (5, vI l5)] [] (c_X25_init_23b k_48 l0 l3 l4 l5) := by
  unfold c_X25_init_23b
  refine s_iload o dX25_init_23 3 rfl ?_
  refine s_iload o dX25_init_25 2 rfl ?_
  refine s_icmp_ge (tgt := 48) o dX25_init_27 (by decide) hl5 hl4 ?_ ?_
  · refine r_to [] [] rfl ?_
    exact s_lo hk_48
  · refine s_aload_n o dX25_init_30 rfl 1 rfl ?_
    refine s_iload o dX25_init_31 3 rfl ?_
    refine r_aald (kd := 5) o (by decide) rfl hl5 dX25_init_33 (fun v1 => ?_)
    refine r_astore o dX25_init_34 rfl ⟨(Nat.ne_of_beq_eq_false rfl), (fun _ => (vA_cat (mg Γ) l0)), ⟨(Nat.ne_of_beq_eq_false rfl), (fun _ => (vA_cat (mg Γ) l3)), ⟨(Nat.ne_of_beq_eq_false rfl), (fun _ => rfl), ⟨(Nat.ne_of_beq_eq_false rfl), (fun _ => rfl), trivial⟩⟩⟩⟩ ?_
    refine s_aload_n o dX25_init_36 rfl 1 rfl ?_
    refine s_aload o dX25_init_37 0 rfl ?_
    refine s_cu (d := d + 1) (As := [vA (mg Γ) v1]) (st := []) (owner := "LazyForge$Part") o (sv_X25_has (mg Γ) d ts l0 v1) rfl (lw_all_tbl q1565) (lw_all_tbl q1566) (Or.inl q1330) ⟨by decide, by decide⟩ (by decide +kernel) wt_0 rfl dX25_init_39 rfl (rs := fun _ => []) (fun _ => rfl) (fun _ _ => ?_)
    refine r_iinc (j := 4) o dX25_init_42 rfl rfl [(6, vA (mg Γ) v1), (0, vA (mg Γ) l0), (3, vA (mg Γ) l3), (4, vI l4)] [0, 1, 2, 3] rfl ⟨(Nat.ne_of_beq_eq_false rfl), (fun _ => (vA_cat (mg Γ) v1)), ⟨(Nat.ne_of_beq_eq_false rfl), (fun _ => (vA_cat (mg Γ) l0)), ⟨(Nat.ne_of_beq_eq_false rfl), (fun _ => (vA_cat (mg Γ) l3)), ⟨(Nat.ne_of_beq_eq_false rfl), (fun _ => rfl), trivial⟩⟩⟩⟩ ?_
    refine s_goto (tgt := 23) o dX25_init_45 (by decide) ?_
    refine r_to [(0, vA (mg Γ) l0), (3, vA (mg Γ) l3), (4, vI l4), (5, vI (w32 (l5 + 1)))] [2, 3, 4, 0] rfl ?_
    exact s_back (⟨hl0, hl4, (w32_R _)⟩) rfl
noncomputable def c_X25_init_23 {A : Type} (k_48 : Mo CH A) (l0 : Int) (l3 : Int) (l4 : Int) (l5 : Int) : Mo CH A := Loop (fun x => c_X25_init_23b k_48 x.1 x.2.1 x.2.2.1 x.2.2.2) (l0, l3, l4, l5)
theorem sc_X25_init_23 {Γ : Gm} {ts : TS} {d : Nat} (hnm : (xMe (mx Γ)).name = "<init>") (o : Ok Γ "LazyForge$Made" cX25_init 7 (Option.none : Option Jvm.ClassFile.FieldType) (d + 2)) {A : Type} {K : A → CH → Prop} (k_48 : Mo CH A) (hk_48 : Sx Γ (fun h => (h, ts)) K 48 [] [] (k_48)) (l0 : Int) (l3 : Int) (l4 : Int) (l5 : Int) (hl0 : 0 < l0) (hl4 : R32 l4) (hl5 : R32 l5) : Sx Γ (fun h => (h, ts)) K 23 [(0, vA (mg Γ) l0), (3, vA (mg Γ) l3), (4, vI l4), (5, vI l5)] [] (c_X25_init_23 k_48 l0 l3 l4 l5) :=
  s_loop okc_X25_init_23 (lvc_X25_init_23 Γ) (fun x hx => sc_X25_init_23b hnm o k_48 hk_48 x.1 x.2.1 x.2.2.1 x.2.2.2 hx.1 hx.2.1 hx.2.2) (x := (l0, l3, l4, l5)) ⟨hl0, hl4, hl5⟩
noncomputable def c_X25_init (l0 : Int) (l1 : Int) (l2 : Int) : Mo CH Int :=
  bnd (c_X4_init l0) fun _ =>
  bnd (pf [125] 5 l0 l1) fun _ =>
  bnd (pf [125] 6 l0 l2) fun _ =>
  bnd (aln l2) fun v1 =>
  c_X25_init_23
    (pr 0) l0 l2 v1 0
theorem sc_X25_init (g : gC) (d : Nat) (ts : TS) (l0 : Int) (l1 : Int) (l2 : Int) (hl0 : 0 < l0) (hl1 : R32 l1) : SF g yX25_init (Cond.code yX25_init cX25_init 7 (Option.none : Option Jvm.ClassFile.FieldType)) (Option.none : Option Jvm.ClassFile.FieldType) (d + 2) [vA g l0, vI l1, vA g l2] (fun h => (h, ts)) (c_X25_init l0 l1 l2) := by
  refine SF.of (lv := [(0, vA g l0), (1, vI l1), (2, vA g l2)]) (by decide) (wt_A (wt_I (wt_A wt_0))) rfl (by simp only [la_A, la_I, la_J, la_0]) (fun Γ hg hnm o => ?_)
  subst hg
  have o : Ok Γ "LazyForge$Made" cX25_init 7 (Option.none : Option Jvm.ClassFile.FieldType) (d + 2) := o
  have hnm : (xMe (mx Γ)).name = "<init>" := hnm
  unfold c_X25_init
  refine s_aload_n o dX25_init_0 rfl 0 rfl ?_
  refine s_ci (d := d + 1) (As := []) (st := []) o (sc_X4_init (mg Γ) d ts l0 hl0) mw_X4_init rfl (Or.inr ⟨_, q1564⟩) (lw_all_tbl q252) rfl hl0 wt_0 rfl dX25_init_1 rfl (fun _ => ?_)
  refine s_aload_n o dX25_init_4 rfl 0 rfl ?_
  refine s_iload_n o dX25_init_5 rfl 1 rfl ?_
  refine r_putf vI rfl o cf_X25_constructor (Or.inl (lw_all_tbl q1568)) dX25_init_6 (Or.inr ⟨hnm, rfl, (lw_all_tbl q1568)⟩) hl1 ty_int ?_
  refine s_aload_n o dX25_init_9 rfl 0 rfl ?_
  refine s_aload_n o dX25_init_10 rfl 2 rfl ?_
  refine r_putf (vA (mg Γ)) rfl o cf_X25_fields (Or.inl (lw_all_tbl q1569)) dX25_init_11 (Or.inr ⟨hnm, rfl, (lw_all_tbl q1569)⟩) trivial (ty_array _) ?_
  refine s_aload_n o dX25_init_14 rfl 2 rfl ?_
  refine r_astore_n o dX25_init_15 rfl rfl ⟨(Nat.ne_of_beq_eq_false rfl), (fun _ => (vA_cat (mg Γ) l0)), ⟨(Nat.ne_of_beq_eq_false rfl), (fun _ => rfl), ⟨(Nat.ne_of_beq_eq_false rfl), (fun _ => (vA_cat (mg Γ) l2)), trivial⟩⟩⟩ ?_
  refine s_aload_n o dX25_init_16 rfl 0 rfl ?_
  refine s_alen o dX25_init_17 (fun v1 hv1 => ?_)
  refine r_istore o dX25_init_18 rfl ⟨(Nat.ne_of_beq_eq_false rfl), (fun _ => (vA_cat (mg Γ) l2)), ⟨(Nat.ne_of_beq_eq_false rfl), (fun _ => (vA_cat (mg Γ) l0)), ⟨(Nat.ne_of_beq_eq_false rfl), (fun _ => rfl), ⟨(Nat.ne_of_beq_eq_false rfl), (fun _ => (vA_cat (mg Γ) l2)), trivial⟩⟩⟩⟩ ?_
  refine s_iconst o dX25_init_20 ?_
  refine r_istore o dX25_init_21 rfl ⟨(Nat.ne_of_beq_eq_false rfl), (fun _ => rfl), ⟨(Nat.ne_of_beq_eq_false rfl), (fun _ => (vA_cat (mg Γ) l2)), ⟨(Nat.ne_of_beq_eq_false rfl), (fun _ => (vA_cat (mg Γ) l0)), ⟨(Nat.ne_of_beq_eq_false rfl), (fun _ => rfl), ⟨(Nat.ne_of_beq_eq_false rfl), (fun _ => (vA_cat (mg Γ) l2)), trivial⟩⟩⟩⟩⟩ ?_
  refine r_to [(0, vA (mg Γ) l0), (3, vA (mg Γ) l2), (4, vI v1), (5, vI 0)] [3, 2, 1, 0] rfl ?_
  refine sc_X25_init_23 hnm o _ ?_ l0 l2 v1 0 hl0 (rN hv1) (r32 rfl)
  · exact s_vret o rfl dX25_init_48 (fun _ hh => hh)
theorem dX24_init_0 : decode cX24_init 0 = .ok (.aload_n 0, 1) := by decide +kernel
theorem dX24_init_1 : decode cX24_init 1 = .ok (.invokespecial 1, 3) := by decide +kernel
theorem dX24_init_4 : decode cX24_init 4 = .ok (.aload_n 0, 1) := by decide +kernel
theorem dX24_init_5 : decode cX24_init 5 = .ok (.lload_n 1, 1) := by decide +kernel
theorem dX24_init_6 : decode cX24_init 6 = .ok (.putfield 7, 3) := by decide +kernel
theorem dX24_init_9 : decode cX24_init 9 = .ok (.return_, 1) := by decide +kernel
theorem mw_X24_init : MW yX24_init (Cond.code yX24_init cX24_init 3 (Option.none : Option Jvm.ClassFile.FieldType)) cX24_init 3 (Option.none : Option Jvm.ClassFile.FieldType) 1 := ⟨rfl, ⟨(lw_all_tbl q1548), rfl, (lw_all_tbl q204)⟩, rfl, ⟨by decide, by decide⟩, by decide +kernel⟩
noncomputable def c_X24_init (l0 : Int) (l1 : Int) : Mo CH Int :=
  bnd (c_X4_init l0) fun _ =>
  bnd (pf [124] 5 l0 l1) fun _ =>
  pr 0
theorem sc_X24_init (g : gC) (d : Nat) (ts : TS) (l0 : Int) (l1 : Int) (hl0 : 0 < l0) (hl1 : R64 l1) : SF g yX24_init (Cond.code yX24_init cX24_init 3 (Option.none : Option Jvm.ClassFile.FieldType)) (Option.none : Option Jvm.ClassFile.FieldType) (d + 2) [vA g l0, vJ l1] (fun h => (h, ts)) (c_X24_init l0 l1) := by
  refine SF.of (lv := [(0, vA g l0), (1, vJ l1)]) (by decide) (wt_A (wt_J wt_0)) rfl (by simp only [la_A, la_I, la_J, la_0]) (fun Γ hg hnm o => ?_)
  subst hg
  have o : Ok Γ "LazyForge$Literal" cX24_init 3 (Option.none : Option Jvm.ClassFile.FieldType) (d + 2) := o
  have hnm : (xMe (mx Γ)).name = "<init>" := hnm
  unfold c_X24_init
  refine s_aload_n o dX24_init_0 rfl 0 rfl ?_
  refine s_ci (d := d + 1) (As := []) (st := []) o (sc_X4_init (mg Γ) d ts l0 hl0) mw_X4_init rfl (Or.inr ⟨_, q1549⟩) (lw_all_tbl q252) rfl hl0 wt_0 rfl dX24_init_1 rfl (fun _ => ?_)
  refine s_aload_n o dX24_init_4 rfl 0 rfl ?_
  refine s_lload_n o dX24_init_5 rfl 1 rfl ?_
  refine r_putf vJ rfl o cf_X24_value (Or.inl (lw_all_tbl q1550)) dX24_init_6 (Or.inr ⟨hnm, rfl, (lw_all_tbl q1550)⟩) hl1 ty_long ?_
  exact s_vret o rfl dX24_init_9 (fun _ hh => hh)
noncomputable def v_X23_has (l0 : Int) (l1 : Int) : Mo CH Int := dsp l0 [([123], c_X4_has l0 l1)]
theorem sv_X23_has (g : gC) (d : Nat) (ts : TS) (l0 : Int) (l1 : Int) : VR g ts ⟨"LazyForge$Sign", "has", "(LLazyForge$Part;)V"⟩ none 1 (d + 1) l0 [vA g l1] (v_X23_has l0 l1) := (VR.cons (x0 := ⟨"LazyForge$Sign", "has", "(LLazyForge$Part;)V"⟩) ⟨⟨23, _, rfl, rfl, (lw_all_tbl q1524)⟩, trivial⟩ (lw_all_tbl q1332) mw_X4_has (sc_X4_has g (d + 0) ts l0 l1) VR.nil)
theorem dX23_init_0 : decode cX23_init 0 = .ok (.aload_n 0, 1) := by decide +kernel
theorem dX23_init_1 : decode cX23_init 1 = .ok (.invokespecial 1, 3) := by decide +kernel
theorem dX23_init_4 : decode cX23_init 4 = .ok (.aload_n 0, 1) := by decide +kernel
theorem dX23_init_5 : decode cX23_init 5 = .ok (.iload_n 1, 1) := by decide +kernel
theorem dX23_init_6 : decode cX23_init 6 = .ok (.putfield 7, 3) := by decide +kernel
theorem dX23_init_9 : decode cX23_init 9 = .ok (.aload_n 0, 1) := by decide +kernel
theorem dX23_init_10 : decode cX23_init 10 = .ok (.aload_n 2, 1) := by decide +kernel
theorem dX23_init_11 : decode cX23_init 11 = .ok (.putfield 13, 3) := by decide +kernel
theorem dX23_init_14 : decode cX23_init 14 = .ok (.aload_n 0, 1) := by decide +kernel
theorem dX23_init_15 : decode cX23_init 15 = .ok (.aload_n 3, 1) := by decide +kernel
theorem dX23_init_16 : decode cX23_init 16 = .ok (.putfield 17, 3) := by decide +kernel
theorem dX23_init_19 : decode cX23_init 19 = .ok (.aload_n 0, 1) := by decide +kernel
theorem dX23_init_20 : decode cX23_init 20 = .ok (.aload_n 2, 1) := by decide +kernel
theorem dX23_init_21 : decode cX23_init 21 = .ok (.invokevirtual 20, 3) := by decide +kernel
theorem dX23_init_24 : decode cX23_init 24 = .ok (.aload_n 0, 1) := by decide +kernel
theorem dX23_init_25 : decode cX23_init 25 = .ok (.aload_n 3, 1) := by decide +kernel
theorem dX23_init_26 : decode cX23_init 26 = .ok (.invokevirtual 20, 3) := by decide +kernel
theorem dX23_init_29 : decode cX23_init 29 = .ok (.return_, 1) := by decide +kernel
theorem mw_X23_init : MW yX23_init (Cond.code yX23_init cX23_init 4 (Option.none : Option Jvm.ClassFile.FieldType)) cX23_init 4 (Option.none : Option Jvm.ClassFile.FieldType) 3 := ⟨rfl, ⟨(lw_all_tbl q1520), rfl, (lw_all_tbl q203)⟩, rfl, ⟨by decide, by decide⟩, by decide +kernel⟩
noncomputable def c_X23_init (l0 : Int) (l1 : Int) (l2 : Int) (l3 : Int) : Mo CH Int :=
  bnd (c_X4_init l0) fun _ =>
  bnd (pf [123] 5 l0 l1) fun _ =>
  bnd (pf [123] 6 l0 l2) fun _ =>
  bnd (pf [123] 7 l0 l3) fun _ =>
  bnd (v_X23_has l0 l2) fun _ =>
  bnd (v_X23_has l0 l3) fun _ =>
  pr 0
theorem sc_X23_init (g : gC) (d : Nat) (ts : TS) (l0 : Int) (l1 : Int) (l2 : Int) (l3 : Int) (hl0 : 0 < l0) (hl1 : R32 l1) : SF g yX23_init (Cond.code yX23_init cX23_init 4 (Option.none : Option Jvm.ClassFile.FieldType)) (Option.none : Option Jvm.ClassFile.FieldType) (d + 2) [vA g l0, vI l1, vA g l2, vA g l3] (fun h => (h, ts)) (c_X23_init l0 l1 l2 l3) := by
  refine SF.of (lv := [(0, vA g l0), (1, vI l1), (2, vA g l2), (3, vA g l3)]) (by decide) (wt_A (wt_I (wt_A (wt_A wt_0)))) rfl (by simp only [la_A, la_I, la_J, la_0]) (fun Γ hg hnm o => ?_)
  subst hg
  have o : Ok Γ "LazyForge$Sign" cX23_init 4 (Option.none : Option Jvm.ClassFile.FieldType) (d + 2) := o
  have hnm : (xMe (mx Γ)).name = "<init>" := hnm
  unfold c_X23_init
  refine s_aload_n o dX23_init_0 rfl 0 rfl ?_
  refine s_ci (d := d + 1) (As := []) (st := []) o (sc_X4_init (mg Γ) d ts l0 hl0) mw_X4_init rfl (Or.inr ⟨_, q1521⟩) (lw_all_tbl q252) rfl hl0 wt_0 rfl dX23_init_1 rfl (fun _ => ?_)
  refine s_aload_n o dX23_init_4 rfl 0 rfl ?_
  refine s_iload_n o dX23_init_5 rfl 1 rfl ?_
  refine r_putf vI rfl o cf_X23_op (Or.inl (lw_all_tbl q1525)) dX23_init_6 (Or.inr ⟨hnm, rfl, (lw_all_tbl q1525)⟩) hl1 ty_int ?_
  refine s_aload_n o dX23_init_9 rfl 0 rfl ?_
  refine s_aload_n o dX23_init_10 rfl 2 rfl ?_
  refine r_putf (vA (mg Γ)) rfl o cf_X23_one (Or.inl (lw_all_tbl q1526)) dX23_init_11 (Or.inr ⟨hnm, rfl, (lw_all_tbl q1526)⟩) trivial (ty_object _) ?_
  refine s_aload_n o dX23_init_14 rfl 0 rfl ?_
  refine s_aload_n o dX23_init_15 rfl 3 rfl ?_
  refine r_putf (vA (mg Γ)) rfl o cf_X23_two (Or.inl (lw_all_tbl q1527)) dX23_init_16 (Or.inr ⟨hnm, rfl, (lw_all_tbl q1527)⟩) trivial (ty_object _) ?_
  refine s_aload_n o dX23_init_19 rfl 0 rfl ?_
  refine s_aload_n o dX23_init_20 rfl 2 rfl ?_
  refine s_cu (d := d + 1) (As := [vA (mg Γ) l2]) (st := []) (owner := "LazyForge$Part") o (sv_X23_has (mg Γ) d ts l0 l2) rfl (lw_all_tbl q1522) (lw_all_tbl q1523) (Or.inl q1330) ⟨by decide, by decide⟩ (by decide +kernel) wt_0 rfl dX23_init_21 rfl (rs := fun _ => []) (fun _ => rfl) (fun _ _ => ?_)
  refine s_aload_n o dX23_init_24 rfl 0 rfl ?_
  refine s_aload_n o dX23_init_25 rfl 3 rfl ?_
  refine s_cu (d := d + 1) (As := [vA (mg Γ) l3]) (st := []) (owner := "LazyForge$Part") o (sv_X23_has (mg Γ) d ts l0 l3) rfl (lw_all_tbl q1522) (lw_all_tbl q1523) (Or.inl q1330) ⟨by decide, by decide⟩ (by decide +kernel) wt_0 rfl dX23_init_26 rfl (rs := fun _ => []) (fun _ => rfl) (fun _ _ => ?_)
  exact s_vret o rfl dX23_init_29 (fun _ hh => hh)
noncomputable def v_X22_has (l0 : Int) (l1 : Int) : Mo CH Int := dsp l0 [([122], c_X4_has l0 l1)]
theorem sv_X22_has (g : gC) (d : Nat) (ts : TS) (l0 : Int) (l1 : Int) : VR g ts ⟨"LazyForge$Case", "has", "(LLazyForge$Part;)V"⟩ none 1 (d + 1) l0 [vA g l1] (v_X22_has l0 l1) := (VR.cons (x0 := ⟨"LazyForge$Case", "has", "(LLazyForge$Part;)V"⟩) ⟨⟨22, _, rfl, rfl, (lw_all_tbl q1494)⟩, trivial⟩ (lw_all_tbl q1332) mw_X4_has (sc_X4_has g (d + 0) ts l0 l1) VR.nil)
theorem dX22_init_0 : decode cX22_init 0 = .ok (.aload_n 0, 1) := by decide +kernel
theorem dX22_init_1 : decode cX22_init 1 = .ok (.invokespecial 3, 3) := by decide +kernel
theorem dX22_init_4 : decode cX22_init 4 = .ok (.aload_n 0, 1) := by decide +kernel
theorem dX22_init_5 : decode cX22_init 5 = .ok (.aload_n 1, 1) := by decide +kernel
theorem dX22_init_6 : decode cX22_init 6 = .ok (.putfield 9, 3) := by decide +kernel
theorem dX22_init_9 : decode cX22_init 9 = .ok (.aload_n 0, 1) := by decide +kernel
theorem dX22_init_10 : decode cX22_init 10 = .ok (.aload_n 2, 1) := by decide +kernel
theorem dX22_init_11 : decode cX22_init 11 = .ok (.putfield 15, 3) := by decide +kernel
theorem dX22_init_14 : decode cX22_init 14 = .ok (.aload_n 0, 1) := by decide +kernel
theorem dX22_init_15 : decode cX22_init 15 = .ok (.aload_n 3, 1) := by decide +kernel
theorem dX22_init_16 : decode cX22_init 16 = .ok (.putfield 19, 3) := by decide +kernel
theorem dX22_init_19 : decode cX22_init 19 = .ok (.aload_n 0, 1) := by decide +kernel
theorem dX22_init_20 : decode cX22_init 20 = .ok (.aload 4, 2) := by decide +kernel
theorem dX22_init_22 : decode cX22_init 22 = .ok (.putfield 22, 3) := by decide +kernel
theorem dX22_init_25 : decode cX22_init 25 = .ok (.aload_n 0, 1) := by decide +kernel
theorem dX22_init_26 : decode cX22_init 26 = .ok (.aload 5, 2) := by decide +kernel
theorem dX22_init_28 : decode cX22_init 28 = .ok (.putfield 26, 3) := by decide +kernel
theorem dX22_init_31 : decode cX22_init 31 = .ok (.aload_n 0, 1) := by decide +kernel
theorem dX22_init_32 : decode cX22_init 32 = .ok (.aload_n 1, 1) := by decide +kernel
theorem dX22_init_33 : decode cX22_init 33 = .ok (.invokevirtual 30, 3) := by decide +kernel
theorem dX22_init_36 : decode cX22_init 36 = .ok (.aload 5, 2) := by decide +kernel
theorem dX22_init_38 : decode cX22_init 38 = .ok (.astore 6, 2) := by decide +kernel
theorem dX22_init_40 : decode cX22_init 40 = .ok (.aload 6, 2) := by decide +kernel
theorem dX22_init_42 : decode cX22_init 42 = .ok (.arraylength, 1) := by decide +kernel
theorem dX22_init_43 : decode cX22_init 43 = .ok (.istore 7, 2) := by decide +kernel
theorem dX22_init_45 : decode cX22_init 45 = .ok (.iconst 0, 1) := by decide +kernel
theorem dX22_init_46 : decode cX22_init 46 = .ok (.istore 8, 2) := by decide +kernel
theorem dX22_init_48 : decode cX22_init 48 = .ok (.iload 8, 2) := by decide +kernel
theorem dX22_init_50 : decode cX22_init 50 = .ok (.iload 7, 2) := by decide +kernel
theorem dX22_init_52 : decode cX22_init 52 = .ok (.if_icmp .ge 22, 3) := by decide +kernel
theorem dX22_init_55 : decode cX22_init 55 = .ok (.aload 6, 2) := by decide +kernel
theorem dX22_init_57 : decode cX22_init 57 = .ok (.iload 8, 2) := by decide +kernel
theorem dX22_init_59 : decode cX22_init 59 = .ok (.aaload, 1) := by decide +kernel
theorem dX22_init_60 : decode cX22_init 60 = .ok (.astore 9, 2) := by decide +kernel
theorem dX22_init_62 : decode cX22_init 62 = .ok (.aload_n 0, 1) := by decide +kernel
theorem dX22_init_63 : decode cX22_init 63 = .ok (.aload 9, 2) := by decide +kernel
theorem dX22_init_65 : decode cX22_init 65 = .ok (.invokevirtual 30, 3) := by decide +kernel
theorem dX22_init_68 : decode cX22_init 68 = .ok (.iinc 8 1, 3) := by decide +kernel
theorem dX22_init_71 : decode cX22_init 71 = .ok (.goto (-23), 3) := by decide +kernel
theorem dX22_init_74 : decode cX22_init 74 = .ok (.return_, 1) := by decide +kernel
theorem mw_X22_init : MW yX22_init (Cond.code yX22_init cX22_init 10 (Option.none : Option Jvm.ClassFile.FieldType)) cX22_init 10 (Option.none : Option Jvm.ClassFile.FieldType) 5 := ⟨rfl, ⟨(lw_all_tbl q1490), rfl, (lw_all_tbl q202)⟩, rfl, ⟨by decide, by decide⟩, by decide +kernel⟩
abbrev okc_X22_init_48 (x : Int × Int × Int × Int) : Prop := 0 < x.1 ∧ R32 x.2.2.1 ∧ R32 x.2.2.2
abbrev lvc_X22_init_48 (Γ : Gm) (x : Int × Int × Int × Int) : List (Nat × Value) := [(0, vA (mg Γ) x.1), (6, vA (mg Γ) x.2.1), (7, vI x.2.2.1), (8, vI x.2.2.2)]
noncomputable def c_X22_init_48b {A : Type} (k_74 : Mo CH A) (l0 : Int) (l6 : Int) (l7 : Int) (l8 : Int) : Mo CH ((Int × Int × Int × Int) ⊕ A) :=
  if l7 ≤ l8 then
    lo k_74
  else
    bnd (ald 5 l6 l8) fun v1 =>
    bnd (v_X22_has l0 v1) fun _ =>
    pr (.inl (l0, l6, l7, (w32 (l8 + 1))))
theorem sc_X22_init_48b {Γ : Gm} {ts : TS} {d : Nat} (hnm : (xMe (mx Γ)).name = "<init>") (o : Ok Γ "LazyForge$Case" cX22_init 10 (Option.none : Option Jvm.ClassFile.FieldType) (d + 2)) {A : Type} {K : A → CH → Prop} (k_74 : Mo CH A) (hk_74 : Sx Γ (fun h => (h, ts)) K 74 [] [] (k_74)) (l0 : Int) (l6 : Int) (l7 : Int) (l8 : Int) (hl0 : 0 < l0) (hl7 : R32 l7) (hl8 : R32 l8) : Sx Γ (fun h => (h, ts)) (KL Γ (fun h => (h, ts)) okc_X22_init_48 K 48 (lvc_X22_init_48 Γ) []) 48 [(0, vA (mg Γ) l0), (6, vA (mg Γ) l6), (7, vI l7), (8, vI l8)] [] (c_X22_init_48b k_74 l0 l6 l7 l8) := by
  unfold c_X22_init_48b
  refine s_iload o dX22_init_48 3 rfl ?_
  refine s_iload o dX22_init_50 2 rfl ?_
  refine s_icmp_ge (tgt := 74) o dX22_init_52 (by decide) hl8 hl7 ?_ ?_
  · refine r_to [] [] rfl ?_
    exact s_lo hk_74
  · refine s_aload o dX22_init_55 1 rfl ?_
    refine s_iload o dX22_init_57 3 rfl ?_
    refine r_aald (kd := 5) o (by decide) rfl hl8 dX22_init_59 (fun v1 => ?_)
    refine r_astore o dX22_init_60 rfl ⟨(Nat.ne_of_beq_eq_false rfl), (fun _ => (vA_cat (mg Γ) l0)), ⟨(Nat.ne_of_beq_eq_false rfl), (fun _ => (vA_cat (mg Γ) l6)), ⟨(Nat.ne_of_beq_eq_false rfl), (fun _ => rfl), ⟨(Nat.ne_of_beq_eq_false rfl), (fun _ => rfl), trivial⟩⟩⟩⟩ ?_
    refine s_aload_n o dX22_init_62 rfl 1 rfl ?_
    refine s_aload o dX22_init_63 0 rfl ?_
    refine s_cu (d := d + 1) (As := [vA (mg Γ) v1]) (st := []) (owner := "LazyForge$Part") o (sv_X22_has (mg Γ) d ts l0 v1) rfl (lw_all_tbl q1492) (lw_all_tbl q1493) (Or.inl q1330) ⟨by decide, by decide⟩ (by decide +kernel) wt_0 rfl dX22_init_65 rfl (rs := fun _ => []) (fun _ => rfl) (fun _ _ => ?_)
    refine r_iinc (j := 4) o dX22_init_68 rfl rfl [(9, vA (mg Γ) v1), (0, vA (mg Γ) l0), (6, vA (mg Γ) l6), (7, vI l7)] [0, 1, 2, 3] rfl ⟨(Nat.ne_of_beq_eq_false rfl), (fun _ => (vA_cat (mg Γ) v1)), ⟨(Nat.ne_of_beq_eq_false rfl), (fun _ => (vA_cat (mg Γ) l0)), ⟨(Nat.ne_of_beq_eq_false rfl), (fun _ => (vA_cat (mg Γ) l6)), ⟨(Nat.ne_of_beq_eq_false rfl), (fun _ => rfl), trivial⟩⟩⟩⟩ ?_
    refine s_goto (tgt := 48) o dX22_init_71 (by decide) ?_
    refine r_to [(0, vA (mg Γ) l0), (6, vA (mg Γ) l6), (7, vI l7), (8, vI (w32 (l8 + 1)))] [2, 3, 4, 0] rfl ?_
    exact s_back (⟨hl0, hl7, (w32_R _)⟩) rfl
noncomputable def c_X22_init_48 {A : Type} (k_74 : Mo CH A) (l0 : Int) (l6 : Int) (l7 : Int) (l8 : Int) : Mo CH A := Loop (fun x => c_X22_init_48b k_74 x.1 x.2.1 x.2.2.1 x.2.2.2) (l0, l6, l7, l8)
theorem sc_X22_init_48 {Γ : Gm} {ts : TS} {d : Nat} (hnm : (xMe (mx Γ)).name = "<init>") (o : Ok Γ "LazyForge$Case" cX22_init 10 (Option.none : Option Jvm.ClassFile.FieldType) (d + 2)) {A : Type} {K : A → CH → Prop} (k_74 : Mo CH A) (hk_74 : Sx Γ (fun h => (h, ts)) K 74 [] [] (k_74)) (l0 : Int) (l6 : Int) (l7 : Int) (l8 : Int) (hl0 : 0 < l0) (hl7 : R32 l7) (hl8 : R32 l8) : Sx Γ (fun h => (h, ts)) K 48 [(0, vA (mg Γ) l0), (6, vA (mg Γ) l6), (7, vI l7), (8, vI l8)] [] (c_X22_init_48 k_74 l0 l6 l7 l8) :=
  s_loop okc_X22_init_48 (lvc_X22_init_48 Γ) (fun x hx => sc_X22_init_48b hnm o k_74 hk_74 x.1 x.2.1 x.2.2.1 x.2.2.2 hx.1 hx.2.1 hx.2.2) (x := (l0, l6, l7, l8)) ⟨hl0, hl7, hl8⟩
noncomputable def c_X22_init (l0 : Int) (l1 : Int) (l2 : Int) (l3 : Int) (l4 : Int) (l5 : Int) : Mo CH Int :=
  bnd (c_X4_init l0) fun _ =>
  bnd (pf [122] 5 l0 l1) fun _ =>
  bnd (pf [122] 6 l0 l2) fun _ =>
  bnd (pf [122] 7 l0 l3) fun _ =>
  bnd (pf [122] 8 l0 l4) fun _ =>
  bnd (pf [122] 9 l0 l5) fun _ =>
  bnd (v_X22_has l0 l1) fun _ =>
  bnd (aln l5) fun v1 =>
  c_X22_init_48
    (pr 0) l0 l5 v1 0
theorem sc_X22_init (g : gC) (d : Nat) (ts : TS) (l0 : Int) (l1 : Int) (l2 : Int) (l3 : Int) (l4 : Int) (l5 : Int) (hl0 : 0 < l0) : SF g yX22_init (Cond.code yX22_init cX22_init 10 (Option.none : Option Jvm.ClassFile.FieldType)) (Option.none : Option Jvm.ClassFile.FieldType) (d + 2) [vA g l0, vA g l1, vA g l2, vA g l3, vA g l4, vA g l5] (fun h => (h, ts)) (c_X22_init l0 l1 l2 l3 l4 l5) := by
  refine SF.of (lv := [(0, vA g l0), (1, vA g l1), (2, vA g l2), (3, vA g l3), (4, vA g l4), (5, vA g l5)]) (by decide) (wt_A (wt_A (wt_A (wt_A (wt_A (wt_A wt_0)))))) rfl (by simp only [la_A, la_I, la_J, la_0]) (fun Γ hg hnm o => ?_)
  subst hg
  have o : Ok Γ "LazyForge$Case" cX22_init 10 (Option.none : Option Jvm.ClassFile.FieldType) (d + 2) := o
  have hnm : (xMe (mx Γ)).name = "<init>" := hnm
  unfold c_X22_init
  refine s_aload_n o dX22_init_0 rfl 0 rfl ?_
  refine s_ci (d := d + 1) (As := []) (st := []) o (sc_X4_init (mg Γ) d ts l0 hl0) mw_X4_init rfl (Or.inr ⟨_, q1491⟩) (lw_all_tbl q252) rfl hl0 wt_0 rfl dX22_init_1 rfl (fun _ => ?_)
  refine s_aload_n o dX22_init_4 rfl 0 rfl ?_
  refine s_aload_n o dX22_init_5 rfl 1 rfl ?_
  refine r_putf (vA (mg Γ)) rfl o cf_X22_of (Or.inl (lw_all_tbl q1495)) dX22_init_6 (Or.inr ⟨hnm, rfl, (lw_all_tbl q1495)⟩) trivial (ty_object _) ?_
  refine s_aload_n o dX22_init_9 rfl 0 rfl ?_
  refine s_aload_n o dX22_init_10 rfl 2 rfl ?_
  refine r_putf (vA (mg Γ)) rfl o cf_X22_patterns (Or.inl (lw_all_tbl q1496)) dX22_init_11 (Or.inr ⟨hnm, rfl, (lw_all_tbl q1496)⟩) trivial (ty_array _) ?_
  refine s_aload_n o dX22_init_14 rfl 0 rfl ?_
  refine s_aload_n o dX22_init_15 rfl 3 rfl ?_
  refine r_putf (vA (mg Γ)) rfl o cf_X22_numbers (Or.inl (lw_all_tbl q1497)) dX22_init_16 (Or.inr ⟨hnm, rfl, (lw_all_tbl q1497)⟩) trivial (ty_array _) ?_
  refine s_aload_n o dX22_init_19 rfl 0 rfl ?_
  refine s_aload o dX22_init_20 4 rfl ?_
  refine r_putf (vA (mg Γ)) rfl o cf_X22_bound (Or.inl (lw_all_tbl q1498)) dX22_init_22 (Or.inr ⟨hnm, rfl, (lw_all_tbl q1498)⟩) trivial (ty_array _) ?_
  refine s_aload_n o dX22_init_25 rfl 0 rfl ?_
  refine s_aload o dX22_init_26 5 rfl ?_
  refine r_putf (vA (mg Γ)) rfl o cf_X22_parts0 (Or.inl (lw_all_tbl q1499)) dX22_init_28 (Or.inr ⟨hnm, rfl, (lw_all_tbl q1499)⟩) trivial (ty_array _) ?_
  refine s_aload_n o dX22_init_31 rfl 0 rfl ?_
  refine s_aload_n o dX22_init_32 rfl 1 rfl ?_
  refine s_cu (d := d + 1) (As := [vA (mg Γ) l1]) (st := []) (owner := "LazyForge$Part") o (sv_X22_has (mg Γ) d ts l0 l1) rfl (lw_all_tbl q1492) (lw_all_tbl q1493) (Or.inl q1330) ⟨by decide, by decide⟩ (by decide +kernel) wt_0 rfl dX22_init_33 rfl (rs := fun _ => []) (fun _ => rfl) (fun _ _ => ?_)
  refine s_aload o dX22_init_36 5 rfl ?_
  refine r_astore o dX22_init_38 rfl ⟨(Nat.ne_of_beq_eq_false rfl), (fun _ => (vA_cat (mg Γ) l0)), ⟨(Nat.ne_of_beq_eq_false rfl), (fun _ => (vA_cat (mg Γ) l1)), ⟨(Nat.ne_of_beq_eq_false rfl), (fun _ => (vA_cat (mg Γ) l2)), ⟨(Nat.ne_of_beq_eq_false rfl), (fun _ => (vA_cat (mg Γ) l3)), ⟨(Nat.ne_of_beq_eq_false rfl), (fun _ => (vA_cat (mg Γ) l4)), ⟨(Nat.ne_of_beq_eq_false rfl), (fun _ => (vA_cat (mg Γ) l5)), trivial⟩⟩⟩⟩⟩⟩ ?_
  refine s_aload o dX22_init_40 0 rfl ?_
  refine s_alen o dX22_init_42 (fun v1 hv1 => ?_)
  refine r_istore o dX22_init_43 rfl ⟨(Nat.ne_of_beq_eq_false rfl), (fun _ => (vA_cat (mg Γ) l5)), ⟨(Nat.ne_of_beq_eq_false rfl), (fun _ => (vA_cat (mg Γ) l0)), ⟨(Nat.ne_of_beq_eq_false rfl), (fun _ => (vA_cat (mg Γ) l1)), ⟨(Nat.ne_of_beq_eq_false rfl), (fun _ => (vA_cat (mg Γ) l2)), ⟨(Nat.ne_of_beq_eq_false rfl), (fun _ => (vA_cat (mg Γ) l3)), ⟨(Nat.ne_of_beq_eq_false rfl), (fun _ => (vA_cat (mg Γ) l4)), ⟨(Nat.ne_of_beq_eq_false rfl), (fun _ => (vA_cat (mg Γ) l5)), trivial⟩⟩⟩⟩⟩⟩⟩ ?_
  refine s_iconst o dX22_init_45 ?_
  refine r_istore o dX22_init_46 rfl ⟨(Nat.ne_of_beq_eq_false rfl), (fun _ => rfl), ⟨(Nat.ne_of_beq_eq_false rfl), (fun _ => (vA_cat (mg Γ) l5)), ⟨(Nat.ne_of_beq_eq_false rfl), (fun _ => (vA_cat (mg Γ) l0)), ⟨(Nat.ne_of_beq_eq_false rfl), (fun _ => (vA_cat (mg Γ) l1)), ⟨(Nat.ne_of_beq_eq_false rfl), (fun _ => (vA_cat (mg Γ) l2)), ⟨(Nat.ne_of_beq_eq_false rfl), (fun _ => (vA_cat (mg Γ) l3)), ⟨(Nat.ne_of_beq_eq_false rfl), (fun _ => (vA_cat (mg Γ) l4)), ⟨(Nat.ne_of_beq_eq_false rfl), (fun _ => (vA_cat (mg Γ) l5)), trivial⟩⟩⟩⟩⟩⟩⟩⟩ ?_
  refine r_to [(0, vA (mg Γ) l0), (6, vA (mg Γ) l5), (7, vI v1), (8, vI 0)] [3, 2, 1, 0] rfl ?_
  refine sc_X22_init_48 hnm o _ ?_ l0 l5 v1 0 hl0 (rN hv1) (r32 rfl)
  · exact s_vret o rfl dX22_init_74 (fun _ hh => hh)
noncomputable def v_X21_has (l0 : Int) (l1 : Int) : Mo CH Int := dsp l0 [([121], c_X4_has l0 l1)]
theorem sv_X21_has (g : gC) (d : Nat) (ts : TS) (l0 : Int) (l1 : Int) : VR g ts ⟨"LazyForge$Apply", "has", "(LLazyForge$Part;)V"⟩ none 1 (d + 1) l0 [vA g l1] (v_X21_has l0 l1) := (VR.cons (x0 := ⟨"LazyForge$Apply", "has", "(LLazyForge$Part;)V"⟩) ⟨⟨21, _, rfl, rfl, (lw_all_tbl q1467)⟩, trivial⟩ (lw_all_tbl q1332) mw_X4_has (sc_X4_has g (d + 0) ts l0 l1) VR.nil)
theorem dX21_init_0 : decode cX21_init 0 = .ok (.aload_n 0, 1) := by decide +kernel
theorem dX21_init_1 : decode cX21_init 1 = .ok (.invokespecial 3, 3) := by decide +kernel
theorem dX21_init_4 : decode cX21_init 4 = .ok (.aload_n 0, 1) := by decide +kernel
theorem dX21_init_5 : decode cX21_init 5 = .ok (.aload_n 1, 1) := by decide +kernel
theorem dX21_init_6 : decode cX21_init 6 = .ok (.putfield 9, 3) := by decide +kernel
theorem dX21_init_9 : decode cX21_init 9 = .ok (.aload_n 0, 1) := by decide +kernel
theorem dX21_init_10 : decode cX21_init 10 = .ok (.aload_n 2, 1) := by decide +kernel
theorem dX21_init_11 : decode cX21_init 11 = .ok (.putfield 15, 3) := by decide +kernel
theorem dX21_init_14 : decode cX21_init 14 = .ok (.aload_n 0, 1) := by decide +kernel
theorem dX21_init_15 : decode cX21_init 15 = .ok (.aload_n 1, 1) := by decide +kernel
theorem dX21_init_16 : decode cX21_init 16 = .ok (.invokevirtual 19, 3) := by decide +kernel
theorem dX21_init_19 : decode cX21_init 19 = .ok (.aload_n 2, 1) := by decide +kernel
theorem dX21_init_20 : decode cX21_init 20 = .ok (.astore_n 3, 1) := by decide +kernel
theorem dX21_init_21 : decode cX21_init 21 = .ok (.aload_n 3, 1) := by decide +kernel
theorem dX21_init_22 : decode cX21_init 22 = .ok (.arraylength, 1) := by decide +kernel
theorem dX21_init_23 : decode cX21_init 23 = .ok (.istore 4, 2) := by decide +kernel
theorem dX21_init_25 : decode cX21_init 25 = .ok (.iconst 0, 1) := by decide +kernel
theorem dX21_init_26 : decode cX21_init 26 = .ok (.istore 5, 2) := by decide +kernel
theorem dX21_init_28 : decode cX21_init 28 = .ok (.iload 5, 2) := by decide +kernel
theorem dX21_init_30 : decode cX21_init 30 = .ok (.iload 4, 2) := by decide +kernel
theorem dX21_init_32 : decode cX21_init 32 = .ok (.if_icmp .ge 21, 3) := by decide +kernel
theorem dX21_init_35 : decode cX21_init 35 = .ok (.aload_n 3, 1) := by decide +kernel
theorem dX21_init_36 : decode cX21_init 36 = .ok (.iload 5, 2) := by decide +kernel
theorem dX21_init_38 : decode cX21_init 38 = .ok (.aaload, 1) := by decide +kernel
theorem dX21_init_39 : decode cX21_init 39 = .ok (.astore 6, 2) := by decide +kernel
theorem dX21_init_41 : decode cX21_init 41 = .ok (.aload_n 0, 1) := by decide +kernel
theorem dX21_init_42 : decode cX21_init 42 = .ok (.aload 6, 2) := by decide +kernel
theorem dX21_init_44 : decode cX21_init 44 = .ok (.invokevirtual 19, 3) := by decide +kernel
theorem dX21_init_47 : decode cX21_init 47 = .ok (.iinc 5 1, 3) := by decide +kernel
theorem dX21_init_50 : decode cX21_init 50 = .ok (.goto (-22), 3) := by decide +kernel
theorem dX21_init_53 : decode cX21_init 53 = .ok (.return_, 1) := by decide +kernel
theorem mw_X21_init : MW yX21_init (Cond.code yX21_init cX21_init 7 (Option.none : Option Jvm.ClassFile.FieldType)) cX21_init 7 (Option.none : Option Jvm.ClassFile.FieldType) 2 := ⟨rfl, ⟨(lw_all_tbl q1463), rfl, (lw_all_tbl q201)⟩, rfl, ⟨by decide, by decide⟩, by decide +kernel⟩
abbrev okc_X21_init_28 (x : Int × Int × Int × Int) : Prop := 0 < x.1 ∧ R32 x.2.2.1 ∧ R32 x.2.2.2
abbrev lvc_X21_init_28 (Γ : Gm) (x : Int × Int × Int × Int) : List (Nat × Value) := [(0, vA (mg Γ) x.1), (3, vA (mg Γ) x.2.1), (4, vI x.2.2.1), (5, vI x.2.2.2)]
noncomputable def c_X21_init_28b {A : Type} (k_53 : Mo CH A) (l0 : Int) (l3 : Int) (l4 : Int) (l5 : Int) : Mo CH ((Int × Int × Int × Int) ⊕ A) :=
  if l4 ≤ l5 then
    lo k_53
  else
    bnd (ald 5 l3 l5) fun v1 =>
    bnd (v_X21_has l0 v1) fun _ =>
    pr (.inl (l0, l3, l4, (w32 (l5 + 1))))
theorem sc_X21_init_28b {Γ : Gm} {ts : TS} {d : Nat} (hnm : (xMe (mx Γ)).name = "<init>") (o : Ok Γ "LazyForge$Apply" cX21_init 7 (Option.none : Option Jvm.ClassFile.FieldType) (d + 2)) {A : Type} {K : A → CH → Prop} (k_53 : Mo CH A) (hk_53 : Sx Γ (fun h => (h, ts)) K 53 [] [] (k_53)) (l0 : Int) (l3 : Int) (l4 : Int) (l5 : Int) (hl0 : 0 < l0) (hl4 : R32 l4) (hl5 : R32 l5) : Sx Γ (fun h => (h, ts)) (KL Γ (fun h => (h, ts)) okc_X21_init_28 K 28 (lvc_X21_init_28 Γ) []) 28 [(0, vA (mg Γ) l0), (3, vA (mg Γ) l3), (4, vI l4), (5, vI l5)] [] (c_X21_init_28b k_53 l0 l3 l4 l5) := by
  unfold c_X21_init_28b
  refine s_iload o dX21_init_28 3 rfl ?_
  refine s_iload o dX21_init_30 2 rfl ?_
  refine s_icmp_ge (tgt := 53) o dX21_init_32 (by decide) hl5 hl4 ?_ ?_
  · refine r_to [] [] rfl ?_
    exact s_lo hk_53
  · refine s_aload_n o dX21_init_35 rfl 1 rfl ?_
    refine s_iload o dX21_init_36 3 rfl ?_
    refine r_aald (kd := 5) o (by decide) rfl hl5 dX21_init_38 (fun v1 => ?_)
    refine r_astore o dX21_init_39 rfl ⟨(Nat.ne_of_beq_eq_false rfl), (fun _ => (vA_cat (mg Γ) l0)), ⟨(Nat.ne_of_beq_eq_false rfl), (fun _ => (vA_cat (mg Γ) l3)), ⟨(Nat.ne_of_beq_eq_false rfl), (fun _ => rfl), ⟨(Nat.ne_of_beq_eq_false rfl), (fun _ => rfl), trivial⟩⟩⟩⟩ ?_
    refine s_aload_n o dX21_init_41 rfl 1 rfl ?_
    refine s_aload o dX21_init_42 0 rfl ?_
    refine s_cu (d := d + 1) (As := [vA (mg Γ) v1]) (st := []) (owner := "LazyForge$Part") o (sv_X21_has (mg Γ) d ts l0 v1) rfl (lw_all_tbl q1465) (lw_all_tbl q1466) (Or.inl q1330) ⟨by decide, by decide⟩ (by decide +kernel) wt_0 rfl dX21_init_44 rfl (rs := fun _ => []) (fun _ => rfl) (fun _ _ => ?_)
    refine r_iinc (j := 4) o dX21_init_47 rfl rfl [(6, vA (mg Γ) v1), (0, vA (mg Γ) l0), (3, vA (mg Γ) l3), (4, vI l4)] [0, 1, 2, 3] rfl ⟨(Nat.ne_of_beq_eq_false rfl), (fun _ => (vA_cat (mg Γ) v1)), ⟨(Nat.ne_of_beq_eq_false rfl), (fun _ => (vA_cat (mg Γ) l0)), ⟨(Nat.ne_of_beq_eq_false rfl), (fun _ => (vA_cat (mg Γ) l3)), ⟨(Nat.ne_of_beq_eq_false rfl), (fun _ => rfl), trivial⟩⟩⟩⟩ ?_
    refine s_goto (tgt := 28) o dX21_init_50 (by decide) ?_
    refine r_to [(0, vA (mg Γ) l0), (3, vA (mg Γ) l3), (4, vI l4), (5, vI (w32 (l5 + 1)))] [2, 3, 4, 0] rfl ?_
    exact s_back (⟨hl0, hl4, (w32_R _)⟩) rfl
noncomputable def c_X21_init_28 {A : Type} (k_53 : Mo CH A) (l0 : Int) (l3 : Int) (l4 : Int) (l5 : Int) : Mo CH A := Loop (fun x => c_X21_init_28b k_53 x.1 x.2.1 x.2.2.1 x.2.2.2) (l0, l3, l4, l5)
theorem sc_X21_init_28 {Γ : Gm} {ts : TS} {d : Nat} (hnm : (xMe (mx Γ)).name = "<init>") (o : Ok Γ "LazyForge$Apply" cX21_init 7 (Option.none : Option Jvm.ClassFile.FieldType) (d + 2)) {A : Type} {K : A → CH → Prop} (k_53 : Mo CH A) (hk_53 : Sx Γ (fun h => (h, ts)) K 53 [] [] (k_53)) (l0 : Int) (l3 : Int) (l4 : Int) (l5 : Int) (hl0 : 0 < l0) (hl4 : R32 l4) (hl5 : R32 l5) : Sx Γ (fun h => (h, ts)) K 28 [(0, vA (mg Γ) l0), (3, vA (mg Γ) l3), (4, vI l4), (5, vI l5)] [] (c_X21_init_28 k_53 l0 l3 l4 l5) :=
  s_loop okc_X21_init_28 (lvc_X21_init_28 Γ) (fun x hx => sc_X21_init_28b hnm o k_53 hk_53 x.1 x.2.1 x.2.2.1 x.2.2.2 hx.1 hx.2.1 hx.2.2) (x := (l0, l3, l4, l5)) ⟨hl0, hl4, hl5⟩
noncomputable def c_X21_init (l0 : Int) (l1 : Int) (l2 : Int) : Mo CH Int :=
  bnd (c_X4_init l0) fun _ =>
  bnd (pf [121] 5 l0 l1) fun _ =>
  bnd (pf [121] 6 l0 l2) fun _ =>
  bnd (v_X21_has l0 l1) fun _ =>
  bnd (aln l2) fun v1 =>
  c_X21_init_28
    (pr 0) l0 l2 v1 0
theorem sc_X21_init (g : gC) (d : Nat) (ts : TS) (l0 : Int) (l1 : Int) (l2 : Int) (hl0 : 0 < l0) : SF g yX21_init (Cond.code yX21_init cX21_init 7 (Option.none : Option Jvm.ClassFile.FieldType)) (Option.none : Option Jvm.ClassFile.FieldType) (d + 2) [vA g l0, vA g l1, vA g l2] (fun h => (h, ts)) (c_X21_init l0 l1 l2) := by
  refine SF.of (lv := [(0, vA g l0), (1, vA g l1), (2, vA g l2)]) (by decide) (wt_A (wt_A (wt_A wt_0))) rfl (by simp only [la_A, la_I, la_J, la_0]) (fun Γ hg hnm o => ?_)
  subst hg
  have o : Ok Γ "LazyForge$Apply" cX21_init 7 (Option.none : Option Jvm.ClassFile.FieldType) (d + 2) := o
  have hnm : (xMe (mx Γ)).name = "<init>" := hnm
  unfold c_X21_init
  refine s_aload_n o dX21_init_0 rfl 0 rfl ?_
  refine s_ci (d := d + 1) (As := []) (st := []) o (sc_X4_init (mg Γ) d ts l0 hl0) mw_X4_init rfl (Or.inr ⟨_, q1464⟩) (lw_all_tbl q252) rfl hl0 wt_0 rfl dX21_init_1 rfl (fun _ => ?_)
  refine s_aload_n o dX21_init_4 rfl 0 rfl ?_
  refine s_aload_n o dX21_init_5 rfl 1 rfl ?_
  refine r_putf (vA (mg Γ)) rfl o cf_X21_head (Or.inl (lw_all_tbl q1468)) dX21_init_6 (Or.inr ⟨hnm, rfl, (lw_all_tbl q1468)⟩) trivial (ty_object _) ?_
  refine s_aload_n o dX21_init_9 rfl 0 rfl ?_
  refine s_aload_n o dX21_init_10 rfl 2 rfl ?_
  refine r_putf (vA (mg Γ)) rfl o cf_X21_arguments (Or.inl (lw_all_tbl q1469)) dX21_init_11 (Or.inr ⟨hnm, rfl, (lw_all_tbl q1469)⟩) trivial (ty_array _) ?_
  refine s_aload_n o dX21_init_14 rfl 0 rfl ?_
  refine s_aload_n o dX21_init_15 rfl 1 rfl ?_
  refine s_cu (d := d + 1) (As := [vA (mg Γ) l1]) (st := []) (owner := "LazyForge$Part") o (sv_X21_has (mg Γ) d ts l0 l1) rfl (lw_all_tbl q1465) (lw_all_tbl q1466) (Or.inl q1330) ⟨by decide, by decide⟩ (by decide +kernel) wt_0 rfl dX21_init_16 rfl (rs := fun _ => []) (fun _ => rfl) (fun _ _ => ?_)
  refine s_aload_n o dX21_init_19 rfl 2 rfl ?_
  refine r_astore_n o dX21_init_20 rfl rfl ⟨(Nat.ne_of_beq_eq_false rfl), (fun _ => (vA_cat (mg Γ) l0)), ⟨(Nat.ne_of_beq_eq_false rfl), (fun _ => (vA_cat (mg Γ) l1)), ⟨(Nat.ne_of_beq_eq_false rfl), (fun _ => (vA_cat (mg Γ) l2)), trivial⟩⟩⟩ ?_
  refine s_aload_n o dX21_init_21 rfl 0 rfl ?_
  refine s_alen o dX21_init_22 (fun v1 hv1 => ?_)
  refine r_istore o dX21_init_23 rfl ⟨(Nat.ne_of_beq_eq_false rfl), (fun _ => (vA_cat (mg Γ) l2)), ⟨(Nat.ne_of_beq_eq_false rfl), (fun _ => (vA_cat (mg Γ) l0)), ⟨(Nat.ne_of_beq_eq_false rfl), (fun _ => (vA_cat (mg Γ) l1)), ⟨(Nat.ne_of_beq_eq_false rfl), (fun _ => (vA_cat (mg Γ) l2)), trivial⟩⟩⟩⟩ ?_
  refine s_iconst o dX21_init_25 ?_
  refine r_istore o dX21_init_26 rfl ⟨(Nat.ne_of_beq_eq_false rfl), (fun _ => rfl), ⟨(Nat.ne_of_beq_eq_false rfl), (fun _ => (vA_cat (mg Γ) l2)), ⟨(Nat.ne_of_beq_eq_false rfl), (fun _ => (vA_cat (mg Γ) l0)), ⟨(Nat.ne_of_beq_eq_false rfl), (fun _ => (vA_cat (mg Γ) l1)), ⟨(Nat.ne_of_beq_eq_false rfl), (fun _ => (vA_cat (mg Γ) l2)), trivial⟩⟩⟩⟩⟩ ?_
  refine r_to [(0, vA (mg Γ) l0), (3, vA (mg Γ) l2), (4, vI v1), (5, vI 0)] [3, 2, 1, 0] rfl ?_
  refine sc_X21_init_28 hnm o _ ?_ l0 l2 v1 0 hl0 (rN hv1) (r32 rfl)
  · exact s_vret o rfl dX21_init_53 (fun _ hh => hh)
