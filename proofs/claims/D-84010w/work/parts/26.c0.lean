/-! PRINTED: the component, 0 to 49 -/
set_option maxRecDepth 100000
theorem dJ13_elementData_0 : decode cJ13_elementData 0 = .ok (.aload_n 0, 1) := by decide +kernel
theorem dJ13_elementData_1 : decode cJ13_elementData 1 = .ok (.getfield 9, 3) := by decide +kernel
theorem dJ13_elementData_4 : decode cJ13_elementData 4 = .ok (.iload_n 1, 1) := by decide +kernel
theorem dJ13_elementData_5 : decode cJ13_elementData 5 = .ok (.aaload, 1) := by decide +kernel
theorem dJ13_elementData_6 : decode cJ13_elementData 6 = .ok (.areturn, 1) := by decide +kernel
theorem mw_J13_elementData : MW yJ13_elementData (Cond.code yJ13_elementData cJ13_elementData 2 (Option.some (Jvm.ClassFile.FieldType.object "java/lang/Object"))) cJ13_elementData 2 (Option.some (Jvm.ClassFile.FieldType.object "java/lang/Object")) 1 := ⟨rfl, ⟨(lw_all_tbl q1277), rfl, (lw_all_tbl q192)⟩, rfl, ⟨by decide, by decide⟩, by decide +kernel⟩
noncomputable def c_J13_elementData (l0 : Int) (l1 : Int) : Mo CH Int :=
  bnd (gf [127] 1 l0) fun v1 =>
  bnd (ald 10 v1 l1) fun v2 =>
  pr v2
theorem sc_J13_elementData (g : gC) (d : Nat) (ts : TS) (l0 : Int) (l1 : Int) (hl1 : R32 l1) : SF g yJ13_elementData (Cond.code yJ13_elementData cJ13_elementData 2 (Option.some (Jvm.ClassFile.FieldType.object "java/lang/Object"))) (Option.some (Jvm.ClassFile.FieldType.object "java/lang/Object")) (d + 0) [vA g l0, vI l1] (fun h => (h, ts)) (c_J13_elementData l0 l1) := by
  refine SF.of (lv := [(0, vA g l0), (1, vI l1)]) (by decide) (wt_A (wt_I wt_0)) rfl (by simp only [la_A, la_I, la_J, la_0]) (fun Γ hg hnm o => ?_)
  subst hg
  have o : Ok Γ "java/util/ArrayList" cJ13_elementData 2 (Option.some (Jvm.ClassFile.FieldType.object "java/lang/Object")) (d + 0) := o
  unfold c_J13_elementData
  refine s_aload_n o dJ13_elementData_0 rfl 0 rfl ?_
  refine r_getf (vA (mg Γ)) rfl o cf_J13_elementData (Or.inl (lw_all_tbl q1044)) dJ13_elementData_1 (fun v1 hv1 => ?_)
  refine s_iload_n o dJ13_elementData_4 rfl 1 rfl ?_
  refine r_aald (kd := 10) o (by decide) rfl hl1 dJ13_elementData_5 (fun v2 => ?_)
  exact s_aret o rfl (Or.inl ⟨_, rfl⟩) dJ13_elementData_6 (fun _ hh => hh)
theorem dJ7_checkIndex_0 : decode cJ7_checkIndex 0 = .ok (.iload_n 0, 1) := by decide +kernel
theorem dJ7_checkIndex_1 : decode cJ7_checkIndex 1 = .ok (.ifCond .lt 8, 3) := by decide +kernel
theorem dJ7_checkIndex_4 : decode cJ7_checkIndex 4 = .ok (.iload_n 0, 1) := by decide +kernel
theorem dJ7_checkIndex_5 : decode cJ7_checkIndex 5 = .ok (.iload_n 1, 1) := by decide +kernel
theorem dJ7_checkIndex_6 : decode cJ7_checkIndex 6 = .ok (.if_icmp .lt 10, 3) := by decide +kernel
theorem dJ7_checkIndex_9 : decode cJ7_checkIndex 9 = .ok (.aload_n 2, 1) := by decide +kernel
theorem dJ7_checkIndex_10 : decode cJ7_checkIndex 10 = .ok (.iload_n 0, 1) := by decide +kernel
theorem dJ7_checkIndex_11 : decode cJ7_checkIndex 11 = .ok (.iload_n 1, 1) := by decide +kernel
theorem dJ7_checkIndex_12 : decode cJ7_checkIndex 12 = .ok (.invokestatic 95, 3) := by decide +kernel
theorem dJ7_checkIndex_15 : decode cJ7_checkIndex 15 = .ok (.athrow, 1) := by decide +kernel
theorem dJ7_checkIndex_16 : decode cJ7_checkIndex 16 = .ok (.iload_n 0, 1) := by decide +kernel
theorem dJ7_checkIndex_17 : decode cJ7_checkIndex 17 = .ok (.ireturn, 1) := by decide +kernel
theorem mw_J7_checkIndex : MW yJ7_checkIndex (Cond.code yJ7_checkIndex cJ7_checkIndex 3 (Option.some Jvm.ClassFile.FieldType.int)) cJ7_checkIndex 3 (Option.some Jvm.ClassFile.FieldType.int) 3 := ⟨rfl, ⟨(lw_all_tbl q628), rfl, (lw_all_tbl q183)⟩, rfl, ⟨by decide, by decide⟩, by decide +kernel⟩
noncomputable def c_J7_checkIndex_9  (l0 : Int) (l1 : Int) (l2 : Int) : Mo CH Int :=
  no
theorem sc_J7_checkIndex_9 {Γ : Gm} {ts : TS} {d : Nat} (o : Ok Γ "jdk/internal/util/Preconditions" cJ7_checkIndex 3 (Option.some Jvm.ClassFile.FieldType.int) (d + 0))   (l0 : Int) (l1 : Int) (l2 : Int) (hl0 : R32 l0) (hl1 : R32 l1) : Sx Γ (fun h => (h, ts)) (fun a s => mt Γ = (0, a, ((s, ts) : Wd))) 9 [(0, vI l0), (1, vI l1), (2, vA (mg Γ) l2)] [] (c_J7_checkIndex_9 l0 l1 l2) := by
  unfold c_J7_checkIndex_9
  refine s_aload_n o dJ7_checkIndex_9 rfl 2 rfl ?_
  refine s_iload_n o dJ7_checkIndex_10 rfl 0 rfl ?_
  refine s_iload_n o dJ7_checkIndex_11 rfl 1 rfl ?_
  exact s_no
noncomputable def c_J7_checkIndex (l0 : Int) (l1 : Int) (l2 : Int) : Mo CH Int :=
  if l0 < 0 then
    c_J7_checkIndex_9 l0 l1 l2
  else
    if l0 < l1 then
      pr l0
    else
      c_J7_checkIndex_9 l0 l1 l2
theorem sc_J7_checkIndex (g : gC) (d : Nat) (ts : TS) (l0 : Int) (l1 : Int) (l2 : Int) (hl0 : R32 l0) (hl1 : R32 l1) : SF g yJ7_checkIndex (Cond.code yJ7_checkIndex cJ7_checkIndex 3 (Option.some Jvm.ClassFile.FieldType.int)) (Option.some Jvm.ClassFile.FieldType.int) (d + 0) [vI l0, vI l1, vA g l2] (fun h => (h, ts)) (c_J7_checkIndex l0 l1 l2) := by
  refine SF.of (lv := [(0, vI l0), (1, vI l1), (2, vA g l2)]) (by decide) (wt_I (wt_I (wt_A wt_0))) rfl (by simp only [la_A, la_I, la_J, la_0]) (fun Γ hg hnm o => ?_)
  subst hg
  have o : Ok Γ "jdk/internal/util/Preconditions" cJ7_checkIndex 3 (Option.some Jvm.ClassFile.FieldType.int) (d + 0) := o
  unfold c_J7_checkIndex
  refine s_iload_n o dJ7_checkIndex_0 rfl 0 rfl ?_
  refine s_if_lt (tgt := 9) o dJ7_checkIndex_1 (by decide) hl0 ?_ ?_
  · exact sc_J7_checkIndex_9 o l0 l1 l2 hl0 hl1
  · refine s_iload_n o dJ7_checkIndex_4 rfl 0 rfl ?_
    refine s_iload_n o dJ7_checkIndex_5 rfl 1 rfl ?_
    refine s_icmp_lt (tgt := 16) o dJ7_checkIndex_6 (by decide) hl0 hl1 ?_ ?_
    · refine s_iload_n o dJ7_checkIndex_16 rfl 0 rfl ?_
      exact s_iret o rfl i_int hl0 dJ7_checkIndex_17 (fun _ hh => hh)
    · exact sc_J7_checkIndex_9 o l0 l1 l2 hl0 hl1
theorem dJ16_checkIndex_0 : decode cJ16_checkIndex 0 = .ok (.iload_n 0, 1) := by decide +kernel
theorem dJ16_checkIndex_1 : decode cJ16_checkIndex 1 = .ok (.iload_n 1, 1) := by decide +kernel
theorem dJ16_checkIndex_2 : decode cJ16_checkIndex 2 = .ok (.aconst_null, 1) := by decide +kernel
theorem dJ16_checkIndex_3 : decode cJ16_checkIndex 3 = .ok (.invokestatic 105, 3) := by decide +kernel
theorem dJ16_checkIndex_6 : decode cJ16_checkIndex 6 = .ok (.ireturn, 1) := by decide +kernel
theorem mw_J16_checkIndex : MW yJ16_checkIndex (Cond.code yJ16_checkIndex cJ16_checkIndex 2 (Option.some Jvm.ClassFile.FieldType.int)) cJ16_checkIndex 2 (Option.some Jvm.ClassFile.FieldType.int) 2 := ⟨rfl, ⟨(lw_all_tbl q1272), rfl, (lw_all_tbl q196)⟩, rfl, ⟨by decide, by decide⟩, by decide +kernel⟩
noncomputable def c_J16_checkIndex (l0 : Int) (l1 : Int) : Mo CH Int :=
  bnd (c_J7_checkIndex l0 l1 0) fun v1 =>
  pr v1
theorem sc_J16_checkIndex (g : gC) (d : Nat) (ts : TS) (l0 : Int) (l1 : Int) (hl0 : R32 l0) (hl1 : R32 l1) : SF g yJ16_checkIndex (Cond.code yJ16_checkIndex cJ16_checkIndex 2 (Option.some Jvm.ClassFile.FieldType.int)) (Option.some Jvm.ClassFile.FieldType.int) (d + 1) [vI l0, vI l1] (fun h => (h, ts)) (c_J16_checkIndex l0 l1) := by
  refine SF.of (lv := [(0, vI l0), (1, vI l1)]) (by decide) (wt_I (wt_I wt_0)) rfl (by simp only [la_A, la_I, la_J, la_0]) (fun Γ hg hnm o => ?_)
  subst hg
  have o : Ok Γ "java/util/Objects" cJ16_checkIndex 2 (Option.some Jvm.ClassFile.FieldType.int) (d + 1) := o
  unfold c_J16_checkIndex
  refine s_iload_n o dJ16_checkIndex_0 rfl 0 rfl ?_
  refine s_iload_n o dJ16_checkIndex_1 rfl 1 rfl ?_
  refine s_null o dJ16_checkIndex_2 ?_
  refine s_cs (d := d + 0) (As := [vI l0, vI l1, vA (mg Γ) 0]) (st := []) o (sc_J7_checkIndex (mg Γ) d ts l0 l1 0 hl0 hl1) mw_J7_checkIndex rfl (Or.inl (lw_all_tbl q1273)) (lw_all_tbl q627) wt_0 rfl dJ16_checkIndex_3 rfl (rs := fun r => [vI r]) (fun _ => rfl) (fun v1 hv1 => ?_)
  exact s_iret o rfl i_int (hv1 _ rfl) dJ16_checkIndex_6 (fun _ hh => hh)
theorem dJ13_get_0 : decode cJ13_get 0 = .ok (.iload_n 1, 1) := by decide +kernel
theorem dJ13_get_1 : decode cJ13_get 1 = .ok (.aload_n 0, 1) := by decide +kernel
theorem dJ13_get_2 : decode cJ13_get 2 = .ok (.getfield 48, 3) := by decide +kernel
theorem dJ13_get_5 : decode cJ13_get 5 = .ok (.invokestatic 118, 3) := by decide +kernel
theorem dJ13_get_8 : decode cJ13_get 8 = .ok (.pop, 1) := by decide +kernel
theorem dJ13_get_9 : decode cJ13_get 9 = .ok (.aload_n 0, 1) := by decide +kernel
theorem dJ13_get_10 : decode cJ13_get 10 = .ok (.iload_n 1, 1) := by decide +kernel
theorem dJ13_get_11 : decode cJ13_get 11 = .ok (.invokevirtual 123, 3) := by decide +kernel
theorem dJ13_get_14 : decode cJ13_get 14 = .ok (.areturn, 1) := by decide +kernel
theorem mw_J13_get : MW yJ13_get (Cond.code yJ13_get cJ13_get 2 (Option.some (Jvm.ClassFile.FieldType.object "java/lang/Object"))) cJ13_get 2 (Option.some (Jvm.ClassFile.FieldType.object "java/lang/Object")) 1 := ⟨rfl, ⟨(lw_all_tbl q1269), rfl, (lw_all_tbl q192)⟩, rfl, ⟨by decide, by decide⟩, by decide +kernel⟩
noncomputable def c_J13_get (l0 : Int) (l1 : Int) : Mo CH Int :=
  bnd (gf [127] 2 l0) fun v1 =>
  bnd (c_J16_checkIndex l1 v1) fun v2 =>
  bnd (isk 127 l0) fun _ =>
  bnd (c_J13_elementData l0 l1) fun v3 =>
  pr v3
theorem sc_J13_get (g : gC) (d : Nat) (ts : TS) (l0 : Int) (l1 : Int) (hl1 : R32 l1) : SF g yJ13_get (Cond.code yJ13_get cJ13_get 2 (Option.some (Jvm.ClassFile.FieldType.object "java/lang/Object"))) (Option.some (Jvm.ClassFile.FieldType.object "java/lang/Object")) (d + 2) [vA g l0, vI l1] (fun h => (h, ts)) (c_J13_get l0 l1) := by
  refine SF.of (lv := [(0, vA g l0), (1, vI l1)]) (by decide) (wt_A (wt_I wt_0)) rfl (by simp only [la_A, la_I, la_J, la_0]) (fun Γ hg hnm o => ?_)
  subst hg
  have o : Ok Γ "java/util/ArrayList" cJ13_get 2 (Option.some (Jvm.ClassFile.FieldType.object "java/lang/Object")) (d + 2) := o
  unfold c_J13_get
  refine s_iload_n o dJ13_get_0 rfl 1 rfl ?_
  refine s_aload_n o dJ13_get_1 rfl 0 rfl ?_
  refine r_getf vI rfl o cf_J13_size (Or.inl (lw_all_tbl q1045)) dJ13_get_2 (fun v1 hv1 => ?_)
  refine s_cs (d := d + 1) (As := [vI l1, vI v1]) (st := []) o (sc_J16_checkIndex (mg Γ) d ts l1 v1 hl1 hv1) mw_J16_checkIndex rfl (Or.inl (lw_all_tbl q1270)) (lw_all_tbl q1271) wt_0 rfl dJ13_get_5 rfl (rs := fun r => [vI r]) (fun _ => rfl) (fun v2 hv2 => ?_)
  refine s_pop o dJ13_get_8 rfl ?_
  refine s_aload_n o dJ13_get_9 rfl 0 rfl ?_
  refine s_iload_n o dJ13_get_10 rfl 1 rfl ?_
  refine s_cvC (d := d + 1) (As := [vI l1]) (st := []) (c := 27) o (sc_J13_elementData (mg Γ) (d + 1) ts l0 l1 hl1) mw_J13_elementData rfl (Or.inl (lw_all_tbl q1274)) rfl (lw_all_tbl q1276) (lw_all_tbl q1275) wt_0 rfl dJ13_get_11 rfl (rs := fun r => [vA (mg Γ) r]) (fun _ => rfl) (fun v3 hv3 => ?_)
  exact s_aret o rfl (Or.inl ⟨_, rfl⟩) dJ13_get_14 (fun _ hh => hh)
theorem dX1_isSort_0 : decode cX1_isSort 0 = .ok (.lload_n 0, 1) := by decide +kernel
theorem dX1_isSort_1 : decode cX1_isSort 1 = .ok (.bipush 32, 2) := by decide +kernel
theorem dX1_isSort_3 : decode cX1_isSort 3 = .ok (.lshr, 1) := by decide +kernel
theorem dX1_isSort_4 : decode cX1_isSort 4 = .ok (.lload_n 2, 1) := by decide +kernel
theorem dX1_isSort_5 : decode cX1_isSort 5 = .ok (.bipush 32, 2) := by decide +kernel
theorem dX1_isSort_7 : decode cX1_isSort 7 = .ok (.lshr, 1) := by decide +kernel
theorem dX1_isSort_8 : decode cX1_isSort 8 = .ok (.lcmp, 1) := by decide +kernel
theorem dX1_isSort_9 : decode cX1_isSort 9 = .ok (.ifCond .ne 7, 3) := by decide +kernel
theorem dX1_isSort_12 : decode cX1_isSort 12 = .ok (.iconst 1, 1) := by decide +kernel
theorem dX1_isSort_13 : decode cX1_isSort 13 = .ok (.goto 4, 3) := by decide +kernel
theorem dX1_isSort_16 : decode cX1_isSort 16 = .ok (.iconst 0, 1) := by decide +kernel
theorem dX1_isSort_17 : decode cX1_isSort 17 = .ok (.ireturn, 1) := by decide +kernel
theorem mw_X1_isSort : MW yX1_isSort (Cond.code yX1_isSort cX1_isSort 4 (Option.some Jvm.ClassFile.FieldType.boolean)) cX1_isSort 4 (Option.some Jvm.ClassFile.FieldType.boolean) 2 := ⟨rfl, ⟨(lw_all_tbl q2185), rfl, (lw_all_tbl q163)⟩, rfl, ⟨by decide, by decide⟩, by decide +kernel⟩
noncomputable def c_X1_isSort (l0 : Int) (l2 : Int) : Mo CH Int :=
  if ¬ (lshr l0 32) = (lshr l2 32) then
    pr 0
  else
    pr 1
theorem sc_X1_isSort (g : gC) (d : Nat) (ts : TS) (l0 : Int) (l2 : Int) (hl0 : R64 l0) (hl2 : R64 l2) : SF g yX1_isSort (Cond.code yX1_isSort cX1_isSort 4 (Option.some Jvm.ClassFile.FieldType.boolean)) (Option.some Jvm.ClassFile.FieldType.boolean) (d + 0) [vJ l0, vJ l2] (fun h => (h, ts)) (c_X1_isSort l0 l2) := by
  refine SF.of (lv := [(0, vJ l0), (2, vJ l2)]) (by decide) (wt_J (wt_J wt_0)) rfl (by simp only [la_A, la_I, la_J, la_0]) (fun Γ hg hnm o => ?_)
  subst hg
  have o : Ok Γ "LazyForge" cX1_isSort 4 (Option.some Jvm.ClassFile.FieldType.boolean) (d + 0) := o
  unfold c_X1_isSort
  refine s_lload_n o dX1_isSort_0 rfl 0 rfl ?_
  refine s_bipush o dX1_isSort_1 rfl ?_
  refine s_lshr o dX1_isSort_3 ?_
  refine s_lload_n o dX1_isSort_4 rfl 1 rfl ?_
  refine s_bipush o dX1_isSort_5 rfl ?_
  refine s_lshr o dX1_isSort_7 ?_
  refine s_lcmp_ne (tgt := 16) o dX1_isSort_8 dX1_isSort_9 (by decide) (lshr_R _ _) (lshr_R _ _) ?_ ?_
  · refine s_iconst o dX1_isSort_16 ?_
    exact s_iret o rfl i_boolean (Or.inl rfl) dX1_isSort_17 (fun _ hh => hh)
  · refine s_iconst o dX1_isSort_12 ?_
    refine s_goto (tgt := 17) o dX1_isSort_13 (by decide) ?_
    exact s_iret o rfl i_boolean (Or.inr rfl) dX1_isSort_17 (fun _ hh => hh)
theorem dX3_again_0 : decode cX3_again 0 = .ok (.aload_n 0, 1) := by decide +kernel
theorem dX3_again_1 : decode cX3_again 1 = .ok (.getfield 71, 3) := by decide +kernel
theorem dX3_again_4 : decode cX3_again 4 = .ok (.aload_n 0, 1) := by decide +kernel
theorem dX3_again_5 : decode cX3_again 5 = .ok (.getfield 48, 3) := by decide +kernel
theorem dX3_again_8 : decode cX3_again 8 = .ok (.arraylength, 1) := by decide +kernel
theorem dX3_again_9 : decode cX3_again 9 = .ok (.if_icmp .ne 63, 3) := by decide +kernel
theorem dX3_again_12 : decode cX3_again 12 = .ok (.iconst 2, 1) := by decide +kernel
theorem dX3_again_13 : decode cX3_again 13 = .ok (.aload_n 0, 1) := by decide +kernel
theorem dX3_again_14 : decode cX3_again 14 = .ok (.getfield 71, 3) := by decide +kernel
theorem dX3_again_17 : decode cX3_again 17 = .ok (.imul, 1) := by decide +kernel
theorem dX3_again_18 : decode cX3_again 18 = .ok (.anewarray 46, 3) := by decide +kernel
theorem dX3_again_21 : decode cX3_again 21 = .ok (.astore_n 3, 1) := by decide +kernel
theorem dX3_again_22 : decode cX3_again 22 = .ok (.iconst 2, 1) := by decide +kernel
theorem dX3_again_23 : decode cX3_again 23 = .ok (.aload_n 0, 1) := by decide +kernel
theorem dX3_again_24 : decode cX3_again 24 = .ok (.getfield 71, 3) := by decide +kernel
theorem dX3_again_27 : decode cX3_again 27 = .ok (.imul, 1) := by decide +kernel
theorem dX3_again_28 : decode cX3_again 28 = .ok (.newarray .int, 2) := by decide +kernel
theorem dX3_again_30 : decode cX3_again 30 = .ok (.astore 4, 2) := by decide +kernel
theorem dX3_again_32 : decode cX3_again 32 = .ok (.aload_n 0, 1) := by decide +kernel
theorem dX3_again_33 : decode cX3_again 33 = .ok (.getfield 48, 3) := by decide +kernel
theorem dX3_again_36 : decode cX3_again 36 = .ok (.iconst 0, 1) := by decide +kernel
theorem dX3_again_37 : decode cX3_again 37 = .ok (.aload_n 3, 1) := by decide +kernel
theorem dX3_again_38 : decode cX3_again 38 = .ok (.iconst 0, 1) := by decide +kernel
theorem dX3_again_39 : decode cX3_again 39 = .ok (.aload_n 0, 1) := by decide +kernel
theorem dX3_again_40 : decode cX3_again 40 = .ok (.getfield 71, 3) := by decide +kernel
theorem dX3_again_43 : decode cX3_again 43 = .ok (.invokestatic 75, 3) := by decide +kernel
theorem dX3_again_46 : decode cX3_again 46 = .ok (.aload_n 0, 1) := by decide +kernel
theorem dX3_again_47 : decode cX3_again 47 = .ok (.getfield 52, 3) := by decide +kernel
theorem dX3_again_50 : decode cX3_again 50 = .ok (.iconst 0, 1) := by decide +kernel
theorem dX3_again_51 : decode cX3_again 51 = .ok (.aload 4, 2) := by decide +kernel
theorem dX3_again_53 : decode cX3_again 53 = .ok (.iconst 0, 1) := by decide +kernel
theorem dX3_again_54 : decode cX3_again 54 = .ok (.aload_n 0, 1) := by decide +kernel
theorem dX3_again_55 : decode cX3_again 55 = .ok (.getfield 71, 3) := by decide +kernel
theorem dX3_again_58 : decode cX3_again 58 = .ok (.invokestatic 75, 3) := by decide +kernel
theorem dX3_again_61 : decode cX3_again 61 = .ok (.aload_n 0, 1) := by decide +kernel
theorem dX3_again_62 : decode cX3_again 62 = .ok (.aload_n 3, 1) := by decide +kernel
theorem dX3_again_63 : decode cX3_again 63 = .ok (.putfield 48, 3) := by decide +kernel
theorem dX3_again_66 : decode cX3_again 66 = .ok (.aload_n 0, 1) := by decide +kernel
theorem dX3_again_67 : decode cX3_again 67 = .ok (.aload 4, 2) := by decide +kernel
theorem dX3_again_69 : decode cX3_again 69 = .ok (.putfield 52, 3) := by decide +kernel
theorem dX3_again_72 : decode cX3_again 72 = .ok (.aload_n 0, 1) := by decide +kernel
theorem dX3_again_73 : decode cX3_again 73 = .ok (.getfield 48, 3) := by decide +kernel
theorem dX3_again_76 : decode cX3_again 76 = .ok (.aload_n 0, 1) := by decide +kernel
theorem dX3_again_77 : decode cX3_again 77 = .ok (.getfield 71, 3) := by decide +kernel
theorem dX3_again_80 : decode cX3_again 80 = .ok (.aload_n 1, 1) := by decide +kernel
theorem dX3_again_81 : decode cX3_again 81 = .ok (.aastore, 1) := by decide +kernel
theorem dX3_again_82 : decode cX3_again 82 = .ok (.aload_n 0, 1) := by decide +kernel
theorem dX3_again_83 : decode cX3_again 83 = .ok (.getfield 52, 3) := by decide +kernel
theorem dX3_again_86 : decode cX3_again 86 = .ok (.aload_n 0, 1) := by decide +kernel
theorem dX3_again_87 : decode cX3_again 87 = .ok (.getfield 71, 3) := by decide +kernel
theorem dX3_again_90 : decode cX3_again 90 = .ok (.iload_n 2, 1) := by decide +kernel
theorem dX3_again_91 : decode cX3_again 91 = .ok (.iastore, 1) := by decide +kernel
theorem dX3_again_92 : decode cX3_again 92 = .ok (.aload_n 0, 1) := by decide +kernel
theorem dX3_again_93 : decode cX3_again 93 = .ok (.dup, 1) := by decide +kernel
theorem dX3_again_94 : decode cX3_again 94 = .ok (.getfield 71, 3) := by decide +kernel
theorem dX3_again_97 : decode cX3_again 97 = .ok (.iconst 1, 1) := by decide +kernel
theorem dX3_again_98 : decode cX3_again 98 = .ok (.iadd, 1) := by decide +kernel
theorem dX3_again_99 : decode cX3_again 99 = .ok (.putfield 71, 3) := by decide +kernel
theorem dX3_again_102 : decode cX3_again 102 = .ok (.return_, 1) := by decide +kernel
theorem mw_X3_again : MW yX3_again (Cond.code yX3_again cX3_again 5 (Option.none : Option Jvm.ClassFile.FieldType)) cX3_again 5 (Option.none : Option Jvm.ClassFile.FieldType) 2 := ⟨rfl, ⟨(lw_all_tbl q2177), rfl, (lw_all_tbl q165)⟩, rfl, ⟨by decide, by decide⟩, by decide +kernel⟩
noncomputable def c_X3_again_72  (l0 : Int) (l1 : Int) (l2 : Int) : Mo CH Int :=
  bnd (gf [103] 6 l0) fun v1 =>
  bnd (gf [103] 8 l0) fun v2 =>
  bnd (asq 5 v1 v2 l1) fun _ =>
  bnd (gf [103] 7 l0) fun v3 =>
  bnd (gf [103] 8 l0) fun v4 =>
  bnd (ast 0 v3 v4 l2) fun _ =>
  bnd (gf [103] 8 l0) fun v5 =>
  bnd (pf [103] 8 l0 (w32 (v5 + 1))) fun _ =>
  pr 0
theorem sc_X3_again_72 {Γ : Gm} {ts : TS} {d : Nat} (o : Ok Γ "LazyForge$Machine" cX3_again 5 (Option.none : Option Jvm.ClassFile.FieldType) (d + 1))   (l0 : Int) (l1 : Int) (l2 : Int) (hl2 : R32 l2) : Sx Γ (fun h => (h, ts)) (fun a s => mt Γ = (0, a, ((s, ts) : Wd))) 72 [(0, vA (mg Γ) l0), (1, vA (mg Γ) l1), (2, vI l2)] [] (c_X3_again_72 l0 l1 l2) := by
  unfold c_X3_again_72
  refine s_aload_n o dX3_again_72 rfl 0 rfl ?_
  refine r_getf (vA (mg Γ)) rfl o cf_X3_waiting (Or.inl (lw_all_tbl q335)) dX3_again_73 (fun v1 hv1 => ?_)
  refine s_aload_n o dX3_again_76 rfl 0 rfl ?_
  refine r_getf vI rfl o cf_X3_waits (Or.inl (lw_all_tbl q337)) dX3_again_77 (fun v2 hv2 => ?_)
  refine s_aload_n o dX3_again_80 rfl 1 rfl ?_
  refine s_aast (kd := 5) o (by decide) (as_5 o) (Or.inl ⟨_, rfl⟩) hv2 dX3_again_81 ?_
  refine s_aload_n o dX3_again_82 rfl 0 rfl ?_
  refine r_getf (vA (mg Γ)) rfl o cf_X3_states (Or.inl (lw_all_tbl q336)) dX3_again_83 (fun v3 hv3 => ?_)
  refine s_aload_n o dX3_again_86 rfl 0 rfl ?_
  refine r_getf vI rfl o cf_X3_waits (Or.inl (lw_all_tbl q337)) dX3_again_87 (fun v4 hv4 => ?_)
  refine s_iload_n o dX3_again_90 rfl 2 rfl ?_
  refine r_iast o hv4 hl2 dX3_again_91 ?_
  refine s_aload_n o dX3_again_92 rfl 0 rfl ?_
  refine s_dup o dX3_again_93 (vA_cat (mg Γ) l0) ?_
  refine r_getf vI rfl o cf_X3_waits (Or.inl (lw_all_tbl q337)) dX3_again_94 (fun v5 hv5 => ?_)
  refine s_iconst o dX3_again_97 ?_
  refine s_iadd o dX3_again_98 ?_
  refine r_putf vI rfl o cf_X3_waits (Or.inl (lw_all_tbl q337)) dX3_again_99 (Or.inl rfl) (w32_R _) ty_int ?_
  exact s_vret o rfl dX3_again_102 (fun _ hh => hh)
noncomputable def c_X3_again (l0 : Int) (l1 : Int) (l2 : Int) : Mo CH Int :=
  bnd (gf [103] 8 l0) fun v1 =>
  bnd (gf [103] 6 l0) fun v2 =>
  bnd (aln v2) fun v3 =>
  if ¬ v1 = v3 then
    c_X3_again_72 l0 l1 l2
  else
    bnd (gf [103] 8 l0) fun v4 =>
    bnd (newa 5 (w32 (2 * v4))) fun v5 =>
    bnd (gf [103] 8 l0) fun v6 =>
    bnd (newa 0 (w32 (2 * v6))) fun v7 =>
    bnd (gf [103] 6 l0) fun v8 =>
    bnd (gf [103] 8 l0) fun v9 =>
    bnd (acp 5 v8 0 v5 0 v9) fun _ =>
    bnd (gf [103] 7 l0) fun v10 =>
    bnd (gf [103] 8 l0) fun v11 =>
    bnd (acp 0 v10 0 v7 0 v11) fun _ =>
    bnd (pf [103] 6 l0 v5) fun _ =>
    bnd (pf [103] 7 l0 v7) fun _ =>
    c_X3_again_72 l0 l1 l2
theorem sc_X3_again (g : gC) (d : Nat) (ts : TS) (l0 : Int) (l1 : Int) (l2 : Int) (hl2 : R32 l2) : SF g yX3_again (Cond.code yX3_again cX3_again 5 (Option.none : Option Jvm.ClassFile.FieldType)) (Option.none : Option Jvm.ClassFile.FieldType) (d + 1) [vA g l0, vA g l1, vI l2] (fun h => (h, ts)) (c_X3_again l0 l1 l2) := by
  refine SF.of (lv := [(0, vA g l0), (1, vA g l1), (2, vI l2)]) (by decide) (wt_A (wt_A (wt_I wt_0))) rfl (by simp only [la_A, la_I, la_J, la_0]) (fun Γ hg hnm o => ?_)
  subst hg
  have o : Ok Γ "LazyForge$Machine" cX3_again 5 (Option.none : Option Jvm.ClassFile.FieldType) (d + 1) := o
  unfold c_X3_again
  refine s_aload_n o dX3_again_0 rfl 0 rfl ?_
  refine r_getf vI rfl o cf_X3_waits (Or.inl (lw_all_tbl q337)) dX3_again_1 (fun v1 hv1 => ?_)
  refine s_aload_n o dX3_again_4 rfl 0 rfl ?_
  refine r_getf (vA (mg Γ)) rfl o cf_X3_waiting (Or.inl (lw_all_tbl q335)) dX3_again_5 (fun v2 hv2 => ?_)
  refine s_alen o dX3_again_8 (fun v3 hv3 => ?_)
  refine s_icmp_ne (tgt := 72) o dX3_again_9 (by decide) hv1 (rN hv3) ?_ ?_
  · exact sc_X3_again_72 o l0 l1 l2 hl2
  · refine s_iconst o dX3_again_12 ?_
    refine s_aload_n o dX3_again_13 rfl 0 rfl ?_
    refine r_getf vI rfl o cf_X3_waits (Or.inl (lw_all_tbl q337)) dX3_again_14 (fun v4 hv4 => ?_)
    refine s_imul o dX3_again_17 ?_
    refine s_anew (kd := 5) o (by decide) (Or.inl rfl) (lw_all_tbl q326) ao_5 (w32_R _) dX3_again_18 (fun v5 hv5 => ?_)
    refine r_astore_n o dX3_again_21 rfl rfl ⟨(Nat.ne_of_beq_eq_false rfl), (fun _ => (vA_cat (mg Γ) l0)), ⟨(Nat.ne_of_beq_eq_false rfl), (fun _ => (vA_cat (mg Γ) l1)), ⟨(Nat.ne_of_beq_eq_false rfl), (fun _ => rfl), trivial⟩⟩⟩ ?_
    refine s_iconst o dX3_again_22 ?_
    refine s_aload_n o dX3_again_23 rfl 1 rfl ?_
    refine r_getf vI rfl o cf_X3_waits (Or.inl (lw_all_tbl q337)) dX3_again_24 (fun v6 hv6 => ?_)
    refine s_imul o dX3_again_27 ?_
    refine s_newa (kd := 0) o (by decide) rfl (by decide) (o.ra (by decide)) (lw_all_tbl q439) (w32_R _) dX3_again_28 (fun v7 hv7 => ?_)
    refine r_astore o dX3_again_30 rfl ⟨(Nat.ne_of_beq_eq_false rfl), (fun _ => (vA_cat (mg Γ) v5)), ⟨(Nat.ne_of_beq_eq_false rfl), (fun _ => (vA_cat (mg Γ) l0)), ⟨(Nat.ne_of_beq_eq_false rfl), (fun _ => (vA_cat (mg Γ) l1)), ⟨(Nat.ne_of_beq_eq_false rfl), (fun _ => rfl), trivial⟩⟩⟩⟩ ?_
    refine s_aload_n o dX3_again_32 rfl 2 rfl ?_
    refine r_getf (vA (mg Γ)) rfl o cf_X3_waiting (Or.inl (lw_all_tbl q335)) dX3_again_33 (fun v8 hv8 => ?_)
    refine s_iconst o dX3_again_36 ?_
    refine s_aload_n o dX3_again_37 rfl 1 rfl ?_
    refine s_iconst o dX3_again_38 ?_
    refine s_aload_n o dX3_again_39 rfl 2 rfl ?_
    refine r_getf vI rfl o cf_X3_waits (Or.inl (lw_all_tbl q337)) dX3_again_40 (fun v9 hv9 => ?_)
    refine s_acp (kd := 5) (d := d + 0) o (by decide) (fun _ => as_5 o) (lw_all_tbl q2178) (r32 rfl) (r32 rfl) hv9 wt_0 rfl dX3_again_43 (lw_all_tbl q481) (lw_all_tbl q480) (lw_all_tbl q179) ?_
    refine s_aload_n o dX3_again_46 rfl 2 rfl ?_
    refine r_getf (vA (mg Γ)) rfl o cf_X3_states (Or.inl (lw_all_tbl q336)) dX3_again_47 (fun v10 hv10 => ?_)
    refine s_iconst o dX3_again_50 ?_
    refine s_aload o dX3_again_51 0 rfl ?_
    refine s_iconst o dX3_again_53 ?_
    refine s_aload_n o dX3_again_54 rfl 2 rfl ?_
    refine r_getf vI rfl o cf_X3_waits (Or.inl (lw_all_tbl q337)) dX3_again_55 (fun v11 hv11 => ?_)
    refine s_acp (kd := 0) (d := d + 0) o (by decide) (fun q => absurd q (by decide)) (lw_all_tbl q2178) (r32 rfl) (r32 rfl) hv11 wt_0 rfl dX3_again_58 (lw_all_tbl q481) (lw_all_tbl q480) (lw_all_tbl q179) ?_
    refine s_aload_n o dX3_again_61 rfl 2 rfl ?_
    refine s_aload_n o dX3_again_62 rfl 1 rfl ?_
    refine r_putf (vA (mg Γ)) rfl o cf_X3_waiting (Or.inl (lw_all_tbl q335)) dX3_again_63 (Or.inl rfl) trivial (ty_array _) ?_
    refine s_aload_n o dX3_again_66 rfl 2 rfl ?_
    refine s_aload o dX3_again_67 0 rfl ?_
    refine r_putf (vA (mg Γ)) rfl o cf_X3_states (Or.inl (lw_all_tbl q336)) dX3_again_69 (Or.inl rfl) trivial (ty_array _) ?_
    refine r_to [(0, vA (mg Γ) l0), (1, vA (mg Γ) l1), (2, vI l2)] [2, 3, 4] rfl ?_
    exact sc_X3_again_72 o l0 l1 l2 hl2
theorem dX3_end_0 : decode cX3_end 0 = .ok (.aload_n 0, 1) := by decide +kernel
theorem dX3_end_1 : decode cX3_end 1 = .ok (.iload_n 1, 1) := by decide +kernel
theorem dX3_end_2 : decode cX3_end 2 = .ok (.putfield 101, 3) := by decide +kernel
theorem dX3_end_5 : decode cX3_end 5 = .ok (.aload_n 0, 1) := by decide +kernel
theorem dX3_end_6 : decode cX3_end 6 = .ok (.iload_n 2, 1) := by decide +kernel
theorem dX3_end_7 : decode cX3_end 7 = .ok (.putfield 104, 3) := by decide +kernel
theorem dX3_end_10 : decode cX3_end 10 = .ok (.return_, 1) := by decide +kernel
theorem mw_X3_end : MW yX3_end (Cond.code yX3_end cX3_end 3 (Option.none : Option Jvm.ClassFile.FieldType)) cX3_end 3 (Option.none : Option Jvm.ClassFile.FieldType) 2 := ⟨rfl, ⟨(lw_all_tbl q2170), rfl, (lw_all_tbl q165)⟩, rfl, ⟨by decide, by decide⟩, by decide +kernel⟩
noncomputable def c_X3_end (l0 : Int) (l1 : Int) (l2 : Int) : Mo CH Int :=
  bnd (pf [103] 22 l0 l1) fun _ =>
  bnd (pf [103] 23 l0 l2) fun _ =>
  pr 0
theorem sc_X3_end (g : gC) (d : Nat) (ts : TS) (l0 : Int) (l1 : Int) (l2 : Int) (hl1 : R32 l1) (hl2 : R32 l2) : SF g yX3_end (Cond.code yX3_end cX3_end 3 (Option.none : Option Jvm.ClassFile.FieldType)) (Option.none : Option Jvm.ClassFile.FieldType) (d + 0) [vA g l0, vI l1, vI l2] (fun h => (h, ts)) (c_X3_end l0 l1 l2) := by
  refine SF.of (lv := [(0, vA g l0), (1, vI l1), (2, vI l2)]) (by decide) (wt_A (wt_I (wt_I wt_0))) rfl (by simp only [la_A, la_I, la_J, la_0]) (fun Γ hg hnm o => ?_)
  subst hg
  have o : Ok Γ "LazyForge$Machine" cX3_end 3 (Option.none : Option Jvm.ClassFile.FieldType) (d + 0) := o
  unfold c_X3_end
  refine s_aload_n o dX3_end_0 rfl 0 rfl ?_
  refine s_iload_n o dX3_end_1 rfl 1 rfl ?_
  refine r_putf vI rfl o cf_X3_ends (Or.inl (lw_all_tbl q355)) dX3_end_2 (Or.inl rfl) hl1 ty_int ?_
  refine s_aload_n o dX3_end_5 rfl 0 rfl ?_
  refine s_iload_n o dX3_end_6 rfl 2 rfl ?_
  refine r_putf vI rfl o cf_X3_why (Or.inl (lw_all_tbl q357)) dX3_end_7 (Or.inl rfl) hl2 ty_int ?_
  exact s_vret o rfl dX3_end_10 (fun _ hh => hh)
theorem dX3_fault_0 : decode cX3_fault 0 = .ok (.aload_n 0, 1) := by decide +kernel
theorem dX3_fault_1 : decode cX3_fault 1 = .ok (.iconst 2, 1) := by decide +kernel
theorem dX3_fault_2 : decode cX3_fault 2 = .ok (.iload_n 1, 1) := by decide +kernel
theorem dX3_fault_3 : decode cX3_fault 3 = .ok (.invokevirtual 107, 3) := by decide +kernel
theorem dX3_fault_6 : decode cX3_fault 6 = .ok (.return_, 1) := by decide +kernel
theorem mw_X3_fault : MW yX3_fault (Cond.code yX3_fault cX3_fault 2 (Option.none : Option Jvm.ClassFile.FieldType)) cX3_fault 2 (Option.none : Option Jvm.ClassFile.FieldType) 1 := ⟨rfl, ⟨(lw_all_tbl q2198), rfl, (lw_all_tbl q165)⟩, rfl, ⟨by decide, by decide⟩, by decide +kernel⟩
noncomputable def c_X3_fault (l0 : Int) (l1 : Int) : Mo CH Int :=
  bnd (isk 103 l0) fun _ =>
  bnd (c_X3_end l0 2 l1) fun _ =>
  pr 0
theorem sc_X3_fault (g : gC) (d : Nat) (ts : TS) (l0 : Int) (l1 : Int) (hl1 : R32 l1) : SF g yX3_fault (Cond.code yX3_fault cX3_fault 2 (Option.none : Option Jvm.ClassFile.FieldType)) (Option.none : Option Jvm.ClassFile.FieldType) (d + 1) [vA g l0, vI l1] (fun h => (h, ts)) (c_X3_fault l0 l1) := by
  refine SF.of (lv := [(0, vA g l0), (1, vI l1)]) (by decide) (wt_A (wt_I wt_0)) rfl (by simp only [la_A, la_I, la_J, la_0]) (fun Γ hg hnm o => ?_)
  subst hg
  have o : Ok Γ "LazyForge$Machine" cX3_fault 2 (Option.none : Option Jvm.ClassFile.FieldType) (d + 1) := o
  unfold c_X3_fault
  refine s_aload_n o dX3_fault_0 rfl 0 rfl ?_
  refine s_iconst o dX3_fault_1 ?_
  refine s_iload_n o dX3_fault_2 rfl 1 rfl ?_
  refine s_cvC (d := d + 0) (As := [vI 2, vI l1]) (st := []) (c := 3) o (sc_X3_end (mg Γ) d ts l0 2 l1 (r32 rfl) hl1) mw_X3_end rfl (Or.inl (lw_all_tbl q2167)) rfl (lw_all_tbl qs50) (lw_all_tbl q2169) wt_0 rfl dX3_fault_3 rfl (rs := fun _ => []) (fun _ => rfl) (fun _ _ => ?_)
  exact s_vret o rfl dX3_fault_6 (fun _ hh => hh)
theorem dJ9_max_0 : decode cJ9_max 0 = .ok (.iload_n 0, 1) := by decide +kernel
theorem dJ9_max_1 : decode cJ9_max 1 = .ok (.iload_n 1, 1) := by decide +kernel
theorem dJ9_max_2 : decode cJ9_max 2 = .ok (.if_icmp .lt 7, 3) := by decide +kernel
theorem dJ9_max_5 : decode cJ9_max 5 = .ok (.iload_n 0, 1) := by decide +kernel
theorem dJ9_max_6 : decode cJ9_max 6 = .ok (.goto 4, 3) := by decide +kernel
theorem dJ9_max_9 : decode cJ9_max 9 = .ok (.iload_n 1, 1) := by decide +kernel
theorem dJ9_max_10 : decode cJ9_max 10 = .ok (.ireturn, 1) := by decide +kernel
theorem mw_J9_max : MW yJ9_max (Cond.code yJ9_max cJ9_max 2 (Option.some Jvm.ClassFile.FieldType.int)) cJ9_max 2 (Option.some Jvm.ClassFile.FieldType.int) 2 := ⟨rfl, ⟨(lw_all_tbl q791), rfl, (lw_all_tbl q185)⟩, rfl, ⟨by decide, by decide⟩, by decide +kernel⟩
noncomputable def c_J9_max (l0 : Int) (l1 : Int) : Mo CH Int :=
  if l0 < l1 then
    pr l1
  else
    pr l0
theorem sc_J9_max (g : gC) (d : Nat) (ts : TS) (l0 : Int) (l1 : Int) (hl0 : R32 l0) (hl1 : R32 l1) : SF g yJ9_max (Cond.code yJ9_max cJ9_max 2 (Option.some Jvm.ClassFile.FieldType.int)) (Option.some Jvm.ClassFile.FieldType.int) (d + 0) [vI l0, vI l1] (fun h => (h, ts)) (c_J9_max l0 l1) := by
  refine SF.of (lv := [(0, vI l0), (1, vI l1)]) (by decide +kernel) (wt_I (wt_I wt_0)) rfl (by simp only [la_A, la_I, la_J, la_0]) (fun Γ hg hnm o => ?_)
  subst hg
  have o : Ok Γ "java/lang/Math" cJ9_max 2 (Option.some Jvm.ClassFile.FieldType.int) (d + 0) := o
  unfold c_J9_max
  refine s_iload_n o dJ9_max_0 rfl 0 rfl ?_
  refine s_iload_n o dJ9_max_1 rfl 1 rfl ?_
  refine s_icmp_lt (tgt := 9) o dJ9_max_2 (by decide) hl0 hl1 ?_ ?_
  · refine s_iload_n o dJ9_max_9 rfl 1 rfl ?_
    exact s_iret o rfl i_int hl1 dJ9_max_10 (fun _ hh => hh)
  · refine s_iload_n o dJ9_max_5 rfl 0 rfl ?_
    refine s_goto (tgt := 10) o dJ9_max_6 (by decide) ?_
    exact s_iret o rfl i_int hl0 dJ9_max_10 (fun _ hh => hh)
theorem dX3_longer_0 : decode cX3_longer 0 = .ok (.iconst 2, 1) := by decide +kernel
theorem dX3_longer_1 : decode cX3_longer 1 = .ok (.aload_n 0, 1) := by decide +kernel
theorem dX3_longer_2 : decode cX3_longer 2 = .ok (.arraylength, 1) := by decide +kernel
theorem dX3_longer_3 : decode cX3_longer 3 = .ok (.imul, 1) := by decide +kernel
theorem dX3_longer_4 : decode cX3_longer 4 = .ok (.iload_n 1, 1) := by decide +kernel
theorem dX3_longer_5 : decode cX3_longer 5 = .ok (.invokestatic 92, 3) := by decide +kernel
theorem dX3_longer_8 : decode cX3_longer 8 = .ok (.newarray .long, 2) := by decide +kernel
theorem dX3_longer_10 : decode cX3_longer 10 = .ok (.astore_n 2, 1) := by decide +kernel
theorem dX3_longer_11 : decode cX3_longer 11 = .ok (.aload_n 0, 1) := by decide +kernel
theorem dX3_longer_12 : decode cX3_longer 12 = .ok (.iconst 0, 1) := by decide +kernel
theorem dX3_longer_13 : decode cX3_longer 13 = .ok (.aload_n 2, 1) := by decide +kernel
theorem dX3_longer_14 : decode cX3_longer 14 = .ok (.iconst 0, 1) := by decide +kernel
theorem dX3_longer_15 : decode cX3_longer 15 = .ok (.aload_n 0, 1) := by decide +kernel
theorem dX3_longer_16 : decode cX3_longer 16 = .ok (.arraylength, 1) := by decide +kernel
theorem dX3_longer_17 : decode cX3_longer 17 = .ok (.invokestatic 75, 3) := by decide +kernel
theorem dX3_longer_20 : decode cX3_longer 20 = .ok (.aload_n 2, 1) := by decide +kernel
theorem dX3_longer_21 : decode cX3_longer 21 = .ok (.areturn, 1) := by decide +kernel
theorem mw_X3_longer : MW yX3_longer (Cond.code yX3_longer cX3_longer 3 (Option.some (Jvm.ClassFile.FieldType.array Jvm.ClassFile.FieldType.long))) cX3_longer 3 (Option.some (Jvm.ClassFile.FieldType.array Jvm.ClassFile.FieldType.long)) 2 := ⟨rfl, ⟨(lw_all_tbl q2192), rfl, (lw_all_tbl q165)⟩, rfl, ⟨by decide, by decide⟩, by decide +kernel⟩
noncomputable def c_X3_longer (l0 : Int) (l1 : Int) : Mo CH Int :=
  bnd (aln l0) fun v1 =>
  bnd (c_J9_max (w32 (2 * v1)) l1) fun v2 =>
  bnd (newa 1 v2) fun v3 =>
  bnd (aln l0) fun v4 =>
  bnd (acp 1 l0 0 v3 0 v4) fun _ =>
  pr v3
theorem sc_X3_longer (g : gC) (d : Nat) (ts : TS) (l0 : Int) (l1 : Int) (hl1 : R32 l1) : SF g yX3_longer (Cond.code yX3_longer cX3_longer 3 (Option.some (Jvm.ClassFile.FieldType.array Jvm.ClassFile.FieldType.long))) (Option.some (Jvm.ClassFile.FieldType.array Jvm.ClassFile.FieldType.long)) (d + 1) [vA g l0, vI l1] (fun h => (h, ts)) (c_X3_longer l0 l1) := by
  refine SF.of (lv := [(0, vA g l0), (1, vI l1)]) (by decide) (wt_A (wt_I wt_0)) rfl (by simp only [la_A, la_I, la_J, la_0]) (fun Γ hg hnm o => ?_)
  subst hg
  have o : Ok Γ "LazyForge$Machine" cX3_longer 3 (Option.some (Jvm.ClassFile.FieldType.array Jvm.ClassFile.FieldType.long)) (d + 1) := o
  unfold c_X3_longer
  refine s_iconst o dX3_longer_0 ?_
  refine s_aload_n o dX3_longer_1 rfl 0 rfl ?_
  refine s_alen o dX3_longer_2 (fun v1 hv1 => ?_)
  refine s_imul o dX3_longer_3 ?_
  refine s_iload_n o dX3_longer_4 rfl 1 rfl ?_
  refine s_cs (d := d + 0) (As := [vI (w32 (2 * v1)), vI l1]) (st := []) o (sc_J9_max (mg Γ) d ts (w32 (2 * v1)) l1 (w32_R _) hl1) mw_J9_max rfl (Or.inl (lw_all_tbl q2193)) (lw_all_tbl q790) wt_0 rfl dX3_longer_5 rfl (rs := fun r => [vI r]) (fun _ => rfl) (fun v2 hv2 => ?_)
  refine s_newa (kd := 1) o (by decide) rfl (by decide) (o.ra (by decide)) (lw_all_tbl q438) (hv2 _ rfl) dX3_longer_8 (fun v3 hv3 => ?_)
  refine r_astore_n o dX3_longer_10 rfl rfl ⟨(Nat.ne_of_beq_eq_false rfl), (fun _ => (vA_cat (mg Γ) l0)), ⟨(Nat.ne_of_beq_eq_false rfl), (fun _ => rfl), trivial⟩⟩ ?_
  refine s_aload_n o dX3_longer_11 rfl 1 rfl ?_
  refine s_iconst o dX3_longer_12 ?_
  refine s_aload_n o dX3_longer_13 rfl 0 rfl ?_
  refine s_iconst o dX3_longer_14 ?_
  refine s_aload_n o dX3_longer_15 rfl 1 rfl ?_
  refine s_alen o dX3_longer_16 (fun v4 hv4 => ?_)
  refine s_acp (kd := 1) (d := d + 0) o (by decide) (fun q => absurd q (by decide)) (lw_all_tbl q2178) (r32 rfl) (r32 rfl) (rN hv4) wt_0 rfl dX3_longer_17 (lw_all_tbl q481) (lw_all_tbl q480) (lw_all_tbl q179) ?_
  refine s_aload_n o dX3_longer_20 rfl 0 rfl ?_
  exact s_aret o rfl (Or.inr ⟨_, rfl⟩) dX3_longer_21 (fun _ hh => hh)
theorem dX3_give_0 : decode cX3_give 0 = .ok (.aload_n 0, 1) := by decide +kernel
theorem dX3_give_1 : decode cX3_give 1 = .ok (.getfield 85, 3) := by decide +kernel
theorem dX3_give_4 : decode cX3_give 4 = .ok (.aload_n 0, 1) := by decide +kernel
theorem dX3_give_5 : decode cX3_give 5 = .ok (.getfield 56, 3) := by decide +kernel
theorem dX3_give_8 : decode cX3_give 8 = .ok (.arraylength, 1) := by decide +kernel
theorem dX3_give_9 : decode cX3_give 9 = .ok (.if_icmp .ne 20, 3) := by decide +kernel
theorem dX3_give_12 : decode cX3_give 12 = .ok (.aload_n 0, 1) := by decide +kernel
theorem dX3_give_13 : decode cX3_give 13 = .ok (.aload_n 0, 1) := by decide +kernel
theorem dX3_give_14 : decode cX3_give 14 = .ok (.getfield 56, 3) := by decide +kernel
theorem dX3_give_17 : decode cX3_give 17 = .ok (.aload_n 0, 1) := by decide +kernel
theorem dX3_give_18 : decode cX3_give 18 = .ok (.getfield 85, 3) := by decide +kernel
theorem dX3_give_21 : decode cX3_give 21 = .ok (.iconst 1, 1) := by decide +kernel
theorem dX3_give_22 : decode cX3_give 22 = .ok (.iadd, 1) := by decide +kernel
theorem dX3_give_23 : decode cX3_give 23 = .ok (.invokestatic 88, 3) := by decide +kernel
theorem dX3_give_26 : decode cX3_give 26 = .ok (.putfield 56, 3) := by decide +kernel
theorem dX3_give_29 : decode cX3_give 29 = .ok (.aload_n 0, 1) := by decide +kernel
theorem dX3_give_30 : decode cX3_give 30 = .ok (.getfield 56, 3) := by decide +kernel
theorem dX3_give_33 : decode cX3_give 33 = .ok (.aload_n 0, 1) := by decide +kernel
theorem dX3_give_34 : decode cX3_give 34 = .ok (.getfield 85, 3) := by decide +kernel
theorem dX3_give_37 : decode cX3_give 37 = .ok (.lload_n 1, 1) := by decide +kernel
theorem dX3_give_38 : decode cX3_give 38 = .ok (.lastore, 1) := by decide +kernel
theorem dX3_give_39 : decode cX3_give 39 = .ok (.aload_n 0, 1) := by decide +kernel
theorem dX3_give_40 : decode cX3_give 40 = .ok (.dup, 1) := by decide +kernel
theorem dX3_give_41 : decode cX3_give 41 = .ok (.getfield 85, 3) := by decide +kernel
theorem dX3_give_44 : decode cX3_give 44 = .ok (.iconst 1, 1) := by decide +kernel
theorem dX3_give_45 : decode cX3_give 45 = .ok (.iadd, 1) := by decide +kernel
theorem dX3_give_46 : decode cX3_give 46 = .ok (.putfield 85, 3) := by decide +kernel
theorem dX3_give_49 : decode cX3_give 49 = .ok (.return_, 1) := by decide +kernel
theorem mw_X3_give : MW yX3_give (Cond.code yX3_give cX3_give 3 (Option.none : Option Jvm.ClassFile.FieldType)) cX3_give 3 (Option.none : Option Jvm.ClassFile.FieldType) 1 := ⟨rfl, ⟨(lw_all_tbl q2189), rfl, (lw_all_tbl q165)⟩, rfl, ⟨by decide, by decide⟩, by decide +kernel⟩
noncomputable def c_X3_give_29  (l0 : Int) (l1 : Int) : Mo CH Int :=
  bnd (gf [103] 9 l0) fun v1 =>
  bnd (gf [103] 10 l0) fun v2 =>
  bnd (ast 1 v1 v2 l1) fun _ =>
  bnd (gf [103] 10 l0) fun v3 =>
  bnd (pf [103] 10 l0 (w32 (v3 + 1))) fun _ =>
  pr 0
theorem sc_X3_give_29 {Γ : Gm} {ts : TS} {d : Nat} (o : Ok Γ "LazyForge$Machine" cX3_give 3 (Option.none : Option Jvm.ClassFile.FieldType) (d + 2))   (l0 : Int) (l1 : Int) (hl1 : R64 l1) : Sx Γ (fun h => (h, ts)) (fun a s => mt Γ = (0, a, ((s, ts) : Wd))) 29 [(0, vA (mg Γ) l0), (1, vJ l1)] [] (c_X3_give_29 l0 l1) := by
  unfold c_X3_give_29
  refine s_aload_n o dX3_give_29 rfl 0 rfl ?_
  refine r_getf (vA (mg Γ)) rfl o cf_X3_values (Or.inl (lw_all_tbl q338)) dX3_give_30 (fun v1 hv1 => ?_)
  refine s_aload_n o dX3_give_33 rfl 0 rfl ?_
  refine r_getf vI rfl o cf_X3_has (Or.inl (lw_all_tbl q339)) dX3_give_34 (fun v2 hv2 => ?_)
  refine s_lload_n o dX3_give_37 rfl 1 rfl ?_
  refine r_last o hv2 hl1 dX3_give_38 ?_
  refine s_aload_n o dX3_give_39 rfl 0 rfl ?_
  refine s_dup o dX3_give_40 (vA_cat (mg Γ) l0) ?_
  refine r_getf vI rfl o cf_X3_has (Or.inl (lw_all_tbl q339)) dX3_give_41 (fun v3 hv3 => ?_)
  refine s_iconst o dX3_give_44 ?_
  refine s_iadd o dX3_give_45 ?_
  refine r_putf vI rfl o cf_X3_has (Or.inl (lw_all_tbl q339)) dX3_give_46 (Or.inl rfl) (w32_R _) ty_int ?_
  exact s_vret o rfl dX3_give_49 (fun _ hh => hh)
noncomputable def c_X3_give (l0 : Int) (l1 : Int) : Mo CH Int :=
  bnd (gf [103] 10 l0) fun v1 =>
  bnd (gf [103] 9 l0) fun v2 =>
  bnd (aln v2) fun v3 =>
  if ¬ v1 = v3 then
    c_X3_give_29 l0 l1
  else
    bnd (gf [103] 9 l0) fun v4 =>
    bnd (gf [103] 10 l0) fun v5 =>
    bnd (c_X3_longer v4 (w32 (v5 + 1))) fun v6 =>
    bnd (pf [103] 9 l0 v6) fun _ =>
    c_X3_give_29 l0 l1
theorem sc_X3_give (g : gC) (d : Nat) (ts : TS) (l0 : Int) (l1 : Int) (hl1 : R64 l1) : SF g yX3_give (Cond.code yX3_give cX3_give 3 (Option.none : Option Jvm.ClassFile.FieldType)) (Option.none : Option Jvm.ClassFile.FieldType) (d + 2) [vA g l0, vJ l1] (fun h => (h, ts)) (c_X3_give l0 l1) := by
  refine SF.of (lv := [(0, vA g l0), (1, vJ l1)]) (by decide) (wt_A (wt_J wt_0)) rfl (by simp only [la_A, la_I, la_J, la_0]) (fun Γ hg hnm o => ?_)
  subst hg
  have o : Ok Γ "LazyForge$Machine" cX3_give 3 (Option.none : Option Jvm.ClassFile.FieldType) (d + 2) := o
  unfold c_X3_give
  refine s_aload_n o dX3_give_0 rfl 0 rfl ?_
  refine r_getf vI rfl o cf_X3_has (Or.inl (lw_all_tbl q339)) dX3_give_1 (fun v1 hv1 => ?_)
  refine s_aload_n o dX3_give_4 rfl 0 rfl ?_
  refine r_getf (vA (mg Γ)) rfl o cf_X3_values (Or.inl (lw_all_tbl q338)) dX3_give_5 (fun v2 hv2 => ?_)
  refine s_alen o dX3_give_8 (fun v3 hv3 => ?_)
  refine s_icmp_ne (tgt := 29) o dX3_give_9 (by decide) hv1 (rN hv3) ?_ ?_
  · exact sc_X3_give_29 o l0 l1 hl1
  · refine s_aload_n o dX3_give_12 rfl 0 rfl ?_
    refine s_aload_n o dX3_give_13 rfl 0 rfl ?_
    refine r_getf (vA (mg Γ)) rfl o cf_X3_values (Or.inl (lw_all_tbl q338)) dX3_give_14 (fun v4 hv4 => ?_)
    refine s_aload_n o dX3_give_17 rfl 0 rfl ?_
    refine r_getf vI rfl o cf_X3_has (Or.inl (lw_all_tbl q339)) dX3_give_18 (fun v5 hv5 => ?_)
    refine s_iconst o dX3_give_21 ?_
    refine s_iadd o dX3_give_22 ?_
    refine s_cs (d := d + 1) (As := [vA (mg Γ) v4, vI (w32 (v5 + 1))]) (st := [vA (mg Γ) l0]) o (sc_X3_longer (mg Γ) d ts v4 (w32 (v5 + 1)) (w32_R _)) mw_X3_longer rfl (Or.inl (lw_all_tbl q2190)) (lw_all_tbl q2191) (wt_A wt_0) rfl dX3_give_23 rfl (rs := fun r => [vA (mg Γ) r, vA (mg Γ) l0]) (fun _ => rfl) (fun v6 hv6 => ?_)
    refine r_putf (vA (mg Γ)) rfl o cf_X3_values (Or.inl (lw_all_tbl q338)) dX3_give_26 (Or.inl rfl) trivial (ty_array _) ?_
    exact sc_X3_give_29 o l0 l1 hl1
theorem dJ13_size_0 : decode cJ13_size 0 = .ok (.aload_n 0, 1) := by decide +kernel
theorem dJ13_size_1 : decode cJ13_size 1 = .ok (.getfield 48, 3) := by decide +kernel
theorem dJ13_size_4 : decode cJ13_size 4 = .ok (.ireturn, 1) := by decide +kernel
theorem mw_J13_size : MW yJ13_size (Cond.code yJ13_size cJ13_size 1 (Option.some Jvm.ClassFile.FieldType.int)) cJ13_size 1 (Option.some Jvm.ClassFile.FieldType.int) 0 := ⟨rfl, ⟨(lw_all_tbl q1360), rfl, (lw_all_tbl q192)⟩, rfl, ⟨by decide, by decide⟩, by decide +kernel⟩
noncomputable def c_J13_size (l0 : Int) : Mo CH Int :=
  bnd (gf [127] 2 l0) fun v1 =>
  pr v1
theorem sc_J13_size (g : gC) (d : Nat) (ts : TS) (l0 : Int) : SF g yJ13_size (Cond.code yJ13_size cJ13_size 1 (Option.some Jvm.ClassFile.FieldType.int)) (Option.some Jvm.ClassFile.FieldType.int) (d + 0) [vA g l0] (fun h => (h, ts)) (c_J13_size l0) := by
  refine SF.of (lv := [(0, vA g l0)]) (by decide) (wt_A wt_0) rfl (by simp only [la_A, la_I, la_J, la_0]) (fun Γ hg hnm o => ?_)
  subst hg
  have o : Ok Γ "java/util/ArrayList" cJ13_size 1 (Option.some Jvm.ClassFile.FieldType.int) (d + 0) := o
  unfold c_J13_size
  refine s_aload_n o dJ13_size_0 rfl 0 rfl ?_
  refine r_getf vI rfl o cf_J13_size (Or.inl (lw_all_tbl q1045)) dJ13_size_1 (fun v1 hv1 => ?_)
  exact s_iret o rfl i_int hv1 dJ13_size_4 (fun _ hh => hh)
theorem dX16_parameters_0 : decode cX16_parameters 0 = .ok (.aload_n 0, 1) := by decide +kernel
theorem dX16_parameters_1 : decode cX16_parameters 1 = .ok (.getfield 18, 3) := by decide +kernel
theorem dX16_parameters_4 : decode cX16_parameters 4 = .ok (.invokevirtual 36, 3) := by decide +kernel
theorem dX16_parameters_7 : decode cX16_parameters 7 = .ok (.aload_n 0, 1) := by decide +kernel
theorem dX16_parameters_8 : decode cX16_parameters 8 = .ok (.getfield 9, 3) := by decide +kernel
theorem dX16_parameters_11 : decode cX16_parameters 11 = .ok (.arraylength, 1) := by decide +kernel
theorem dX16_parameters_12 : decode cX16_parameters 12 = .ok (.iadd, 1) := by decide +kernel
theorem dX16_parameters_13 : decode cX16_parameters 13 = .ok (.ireturn, 1) := by decide +kernel
theorem mw_X16_parameters : MW yX16_parameters (Cond.code yX16_parameters cX16_parameters 1 (Option.some Jvm.ClassFile.FieldType.int)) cX16_parameters 1 (Option.some Jvm.ClassFile.FieldType.int) 0 := ⟨rfl, ⟨(lw_all_tbl q1607), rfl, (lw_all_tbl q193)⟩, rfl, ⟨by decide, by decide⟩, by decide +kernel⟩
noncomputable def c_X16_parameters (l0 : Int) : Mo CH Int :=
  bnd (gf [116] 4 l0) fun v1 =>
  bnd (isk 127 v1) fun _ =>
  bnd (c_J13_size v1) fun v2 =>
  bnd (gf [116] 3 l0) fun v3 =>
  bnd (aln v3) fun v4 =>
  pr (w32 (v2 + v4))
theorem sc_X16_parameters (g : gC) (d : Nat) (ts : TS) (l0 : Int) : SF g yX16_parameters (Cond.code yX16_parameters cX16_parameters 1 (Option.some Jvm.ClassFile.FieldType.int)) (Option.some Jvm.ClassFile.FieldType.int) (d + 1) [vA g l0] (fun h => (h, ts)) (c_X16_parameters l0) := by
  refine SF.of (lv := [(0, vA g l0)]) (by decide) (wt_A wt_0) rfl (by simp only [la_A, la_I, la_J, la_0]) (fun Γ hg hnm o => ?_)
  subst hg
  have o : Ok Γ "LazyForge$Function" cX16_parameters 1 (Option.some Jvm.ClassFile.FieldType.int) (d + 1) := o
  unfold c_X16_parameters
  refine s_aload_n o dX16_parameters_0 rfl 0 rfl ?_
  refine r_getf (vA (mg Γ)) rfl o cf_X16_free (Or.inl (lw_all_tbl q1154)) dX16_parameters_1 (fun v1 hv1 => ?_)
  refine s_cvC (d := d + 0) (As := []) (st := []) (c := 27) o (sc_J13_size (mg Γ) d ts v1) mw_J13_size rfl (Or.inl (lw_all_tbl q1608)) rfl (lw_all_tbl q1359) (lw_all_tbl q1358) wt_0 rfl dX16_parameters_4 rfl (rs := fun r => [vI r]) (fun _ => rfl) (fun v2 hv2 => ?_)
  refine s_aload_n o dX16_parameters_7 rfl 0 rfl ?_
  refine r_getf (vA (mg Γ)) rfl o cf_X16_own (Or.inl (lw_all_tbl q1152)) dX16_parameters_8 (fun v3 hv3 => ?_)
  refine s_alen o dX16_parameters_11 (fun v4 hv4 => ?_)
  refine s_iadd o dX16_parameters_12 ?_
  exact s_iret o rfl i_int (w32_R _) dX16_parameters_13 (fun _ hh => hh)
theorem dX16_variables_0 : decode cX16_variables 0 = .ok (.aload_n 0, 1) := by decide +kernel
theorem dX16_variables_1 : decode cX16_variables 1 = .ok (.invokevirtual 47, 3) := by decide +kernel
theorem dX16_variables_4 : decode cX16_variables 4 = .ok (.aload_n 0, 1) := by decide +kernel
theorem dX16_variables_5 : decode cX16_variables 5 = .ok (.getfield 22, 3) := by decide +kernel
theorem dX16_variables_8 : decode cX16_variables 8 = .ok (.invokevirtual 36, 3) := by decide +kernel
theorem dX16_variables_11 : decode cX16_variables 11 = .ok (.iadd, 1) := by decide +kernel
theorem dX16_variables_12 : decode cX16_variables 12 = .ok (.ireturn, 1) := by decide +kernel
theorem mw_X16_variables : MW yX16_variables (Cond.code yX16_variables cX16_variables 1 (Option.some Jvm.ClassFile.FieldType.int)) cX16_variables 1 (Option.some Jvm.ClassFile.FieldType.int) 0 := ⟨rfl, ⟨(lw_all_tbl q1618), rfl, (lw_all_tbl q193)⟩, rfl, ⟨by decide, by decide⟩, by decide +kernel⟩
noncomputable def c_X16_variables (l0 : Int) : Mo CH Int :=
  bnd (isk 116 l0) fun _ =>
  bnd (c_X16_parameters l0) fun v1 =>
  bnd (gf [116] 5 l0) fun v2 =>
  bnd (isk 127 v2) fun _ =>
  bnd (c_J13_size v2) fun v3 =>
  pr (w32 (v1 + v3))
theorem sc_X16_variables (g : gC) (d : Nat) (ts : TS) (l0 : Int) : SF g yX16_variables (Cond.code yX16_variables cX16_variables 1 (Option.some Jvm.ClassFile.FieldType.int)) (Option.some Jvm.ClassFile.FieldType.int) (d + 2) [vA g l0] (fun h => (h, ts)) (c_X16_variables l0) := by
  refine SF.of (lv := [(0, vA g l0)]) (by decide) (wt_A wt_0) rfl (by simp only [la_A, la_I, la_J, la_0]) (fun Γ hg hnm o => ?_)
  subst hg
  have o : Ok Γ "LazyForge$Function" cX16_variables 1 (Option.some Jvm.ClassFile.FieldType.int) (d + 2) := o
  unfold c_X16_variables
  refine s_aload_n o dX16_variables_0 rfl 0 rfl ?_
  refine s_cvC (d := d + 1) (As := []) (st := []) (c := 16) o (sc_X16_parameters (mg Γ) d ts l0) mw_X16_parameters rfl (Or.inl (lw_all_tbl q1614)) rfl (lw_all_tbl q1606) (lw_all_tbl q1605) wt_0 rfl dX16_variables_1 rfl (rs := fun r => [vI r]) (fun _ => rfl) (fun v1 hv1 => ?_)
  refine s_aload_n o dX16_variables_4 rfl 0 rfl ?_
  refine r_getf (vA (mg Γ)) rfl o cf_X16_locals (Or.inl (lw_all_tbl q1157)) dX16_variables_5 (fun v2 hv2 => ?_)
  refine s_cvC (d := d + 1) (As := []) (st := [vI v1]) (c := 27) o (sc_J13_size (mg Γ) (d + 1) ts v2) mw_J13_size rfl (Or.inl (lw_all_tbl q1608)) rfl (lw_all_tbl q1359) (lw_all_tbl q1358) (wt_I wt_0) rfl dX16_variables_8 rfl (rs := fun r => [vI r, vI v1]) (fun _ => rfl) (fun v3 hv3 => ?_)
  refine s_iadd o dX16_variables_11 ?_
  exact s_iret o rfl i_int (w32_R _) dX16_variables_12 (fun _ hh => hh)
theorem dX3_open_0 : decode cX3_open 0 = .ok (.aload_n 0, 1) := by decide +kernel
theorem dX3_open_1 : decode cX3_open 1 = .ok (.getfield 166, 3) := by decide +kernel
theorem dX3_open_4 : decode cX3_open 4 = .ok (.aload_n 0, 1) := by decide +kernel
theorem dX3_open_5 : decode cX3_open 5 = .ok (.getfield 62, 3) := by decide +kernel
theorem dX3_open_8 : decode cX3_open 8 = .ok (.arraylength, 1) := by decide +kernel
theorem dX3_open_9 : decode cX3_open 9 = .ok (.if_icmp .ne 31, 3) := by decide +kernel
theorem dX3_open_12 : decode cX3_open 12 = .ok (.iconst 2, 1) := by decide +kernel
theorem dX3_open_13 : decode cX3_open 13 = .ok (.aload_n 0, 1) := by decide +kernel
theorem dX3_open_14 : decode cX3_open 14 = .ok (.getfield 166, 3) := by decide +kernel
theorem dX3_open_17 : decode cX3_open 17 = .ok (.imul, 1) := by decide +kernel
theorem dX3_open_18 : decode cX3_open 18 = .ok (.newarray .int, 2) := by decide +kernel
theorem dX3_open_20 : decode cX3_open 20 = .ok (.astore_n 2, 1) := by decide +kernel
theorem dX3_open_21 : decode cX3_open 21 = .ok (.aload_n 0, 1) := by decide +kernel
theorem dX3_open_22 : decode cX3_open 22 = .ok (.getfield 62, 3) := by decide +kernel
theorem dX3_open_25 : decode cX3_open 25 = .ok (.iconst 0, 1) := by decide +kernel
theorem dX3_open_26 : decode cX3_open 26 = .ok (.aload_n 2, 1) := by decide +kernel
theorem dX3_open_27 : decode cX3_open 27 = .ok (.iconst 0, 1) := by decide +kernel
theorem dX3_open_28 : decode cX3_open 28 = .ok (.aload_n 0, 1) := by decide +kernel
theorem dX3_open_29 : decode cX3_open 29 = .ok (.getfield 166, 3) := by decide +kernel
theorem dX3_open_32 : decode cX3_open 32 = .ok (.invokestatic 75, 3) := by decide +kernel
theorem dX3_open_35 : decode cX3_open 35 = .ok (.aload_n 0, 1) := by decide +kernel
theorem dX3_open_36 : decode cX3_open 36 = .ok (.aload_n 2, 1) := by decide +kernel
theorem dX3_open_37 : decode cX3_open 37 = .ok (.putfield 62, 3) := by decide +kernel
theorem dX3_open_40 : decode cX3_open 40 = .ok (.aload_n 0, 1) := by decide +kernel
theorem dX3_open_41 : decode cX3_open 41 = .ok (.getfield 62, 3) := by decide +kernel
theorem dX3_open_44 : decode cX3_open 44 = .ok (.aload_n 0, 1) := by decide +kernel
theorem dX3_open_45 : decode cX3_open 45 = .ok (.getfield 166, 3) := by decide +kernel
theorem dX3_open_48 : decode cX3_open 48 = .ok (.aload_n 0, 1) := by decide +kernel
theorem dX3_open_49 : decode cX3_open 49 = .ok (.getfield 98, 3) := by decide +kernel
theorem dX3_open_52 : decode cX3_open 52 = .ok (.iastore, 1) := by decide +kernel
theorem dX3_open_53 : decode cX3_open 53 = .ok (.aload_n 0, 1) := by decide +kernel
theorem dX3_open_54 : decode cX3_open 54 = .ok (.dup, 1) := by decide +kernel
theorem dX3_open_55 : decode cX3_open 55 = .ok (.getfield 166, 3) := by decide +kernel
theorem dX3_open_58 : decode cX3_open 58 = .ok (.iconst 1, 1) := by decide +kernel
theorem dX3_open_59 : decode cX3_open 59 = .ok (.iadd, 1) := by decide +kernel
theorem dX3_open_60 : decode cX3_open 60 = .ok (.putfield 166, 3) := by decide +kernel
theorem dX3_open_63 : decode cX3_open 63 = .ok (.aload_n 0, 1) := by decide +kernel
theorem dX3_open_64 : decode cX3_open 64 = .ok (.aload_n 0, 1) := by decide +kernel
theorem dX3_open_65 : decode cX3_open 65 = .ok (.getfield 169, 3) := by decide +kernel
theorem dX3_open_68 : decode cX3_open 68 = .ok (.putfield 98, 3) := by decide +kernel
theorem dX3_open_71 : decode cX3_open 71 = .ok (.aload_n 0, 1) := by decide +kernel
theorem dX3_open_72 : decode cX3_open 72 = .ok (.dup, 1) := by decide +kernel
theorem dX3_open_73 : decode cX3_open 73 = .ok (.getfield 169, 3) := by decide +kernel
theorem dX3_open_76 : decode cX3_open 76 = .ok (.aload_n 1, 1) := by decide +kernel
theorem dX3_open_77 : decode cX3_open 77 = .ok (.invokevirtual 172, 3) := by decide +kernel
theorem dX3_open_80 : decode cX3_open 80 = .ok (.iadd, 1) := by decide +kernel
theorem dX3_open_81 : decode cX3_open 81 = .ok (.putfield 169, 3) := by decide +kernel
theorem dX3_open_84 : decode cX3_open 84 = .ok (.aload_n 0, 1) := by decide +kernel
theorem dX3_open_85 : decode cX3_open 85 = .ok (.getfield 169, 3) := by decide +kernel
theorem dX3_open_88 : decode cX3_open 88 = .ok (.aload_n 0, 1) := by decide +kernel
theorem dX3_open_89 : decode cX3_open 89 = .ok (.getfield 59, 3) := by decide +kernel
theorem dX3_open_92 : decode cX3_open 92 = .ok (.arraylength, 1) := by decide +kernel
theorem dX3_open_93 : decode cX3_open 93 = .ok (.if_icmp .le 18, 3) := by decide +kernel
theorem dX3_open_96 : decode cX3_open 96 = .ok (.aload_n 0, 1) := by decide +kernel
theorem dX3_open_97 : decode cX3_open 97 = .ok (.aload_n 0, 1) := by decide +kernel
theorem dX3_open_98 : decode cX3_open 98 = .ok (.getfield 59, 3) := by decide +kernel
theorem dX3_open_101 : decode cX3_open 101 = .ok (.aload_n 0, 1) := by decide +kernel
theorem dX3_open_102 : decode cX3_open 102 = .ok (.getfield 169, 3) := by decide +kernel
theorem dX3_open_105 : decode cX3_open 105 = .ok (.invokestatic 88, 3) := by decide +kernel
theorem dX3_open_108 : decode cX3_open 108 = .ok (.putfield 59, 3) := by decide +kernel
theorem dX3_open_111 : decode cX3_open 111 = .ok (.aload_n 0, 1) := by decide +kernel
theorem dX3_open_112 : decode cX3_open 112 = .ok (.aload_n 0, 1) := by decide +kernel
theorem dX3_open_113 : decode cX3_open 113 = .ok (.getfield 21, 3) := by decide +kernel
theorem dX3_open_116 : decode cX3_open 116 = .ok (.iconst 0, 1) := by decide +kernel
theorem dX3_open_117 : decode cX3_open 117 = .ok (.invokevirtual 81, 3) := by decide +kernel
theorem dX3_open_120 : decode cX3_open 120 = .ok (.return_, 1) := by decide +kernel
theorem mw_X3_open : MW yX3_open (Cond.code yX3_open cX3_open 3 (Option.none : Option Jvm.ClassFile.FieldType)) cX3_open 3 (Option.none : Option Jvm.ClassFile.FieldType) 1 := ⟨rfl, ⟨(lw_all_tbl q2202), rfl, (lw_all_tbl q165)⟩, rfl, ⟨by decide, by decide⟩, by decide +kernel⟩
noncomputable def c_X3_open_111  (l0 : Int) : Mo CH Int :=
  bnd (gf [103] 1 l0) fun v1 =>
  bnd (isk 103 l0) fun _ =>
  bnd (c_X3_again l0 v1 0) fun _ =>
  pr 0
theorem sc_X3_open_111 {Γ : Gm} {ts : TS} {d : Nat} (o : Ok Γ "LazyForge$Machine" cX3_open 3 (Option.none : Option Jvm.ClassFile.FieldType) (d + 3))   (l0 : Int) : Sx Γ (fun h => (h, ts)) (fun a s => mt Γ = (0, a, ((s, ts) : Wd))) 111 [(0, vA (mg Γ) l0)] [] (c_X3_open_111 l0) := by
  unfold c_X3_open_111
  refine s_aload_n o dX3_open_111 rfl 0 rfl ?_
  refine s_aload_n o dX3_open_112 rfl 0 rfl ?_
  refine r_getf (vA (mg Γ)) rfl o cf_X3_leaving (Or.inl (lw_all_tbl q329)) dX3_open_113 (fun v1 hv1 => ?_)
  refine s_iconst o dX3_open_116 ?_
  refine s_cvC (d := d + 2) (As := [vA (mg Γ) v1, vI 0]) (st := []) (c := 3) o (sc_X3_again (mg Γ) (d + 1) ts l0 v1 0 (r32 rfl)) mw_X3_again rfl (Or.inl (lw_all_tbl q2174)) rfl (lw_all_tbl q2176) (lw_all_tbl q2175) wt_0 rfl dX3_open_117 rfl (rs := fun _ => []) (fun _ => rfl) (fun _ _ => ?_)
  exact s_vret o rfl dX3_open_120 (fun _ hh => hh)
noncomputable def c_X3_open_40  (l0 : Int) (l1 : Int) : Mo CH Int :=
  bnd (gf [103] 14 l0) fun v1 =>
  bnd (gf [103] 15 l0) fun v2 =>
  bnd (gf [103] 12 l0) fun v3 =>
  bnd (ast 0 v1 v2 v3) fun _ =>
  bnd (gf [103] 15 l0) fun v4 =>
  bnd (pf [103] 15 l0 (w32 (v4 + 1))) fun _ =>
  bnd (gf [103] 13 l0) fun v5 =>
  bnd (pf [103] 12 l0 v5) fun _ =>
  bnd (gf [103] 13 l0) fun v6 =>
  bnd (isk 116 l1) fun _ =>
  bnd (c_X16_variables l1) fun v7 =>
  bnd (pf [103] 13 l0 (w32 (v6 + v7))) fun _ =>
  bnd (gf [103] 13 l0) fun v8 =>
  bnd (gf [103] 11 l0) fun v9 =>
  bnd (aln v9) fun v10 =>
  if v8 ≤ v10 then
    c_X3_open_111 l0
  else
    bnd (gf [103] 11 l0) fun v11 =>
    bnd (gf [103] 13 l0) fun v12 =>
    bnd (c_X3_longer v11 v12) fun v13 =>
    bnd (pf [103] 11 l0 v13) fun _ =>
    c_X3_open_111 l0
theorem sc_X3_open_40 {Γ : Gm} {ts : TS} {d : Nat} (o : Ok Γ "LazyForge$Machine" cX3_open 3 (Option.none : Option Jvm.ClassFile.FieldType) (d + 3))   (l0 : Int) (l1 : Int) : Sx Γ (fun h => (h, ts)) (fun a s => mt Γ = (0, a, ((s, ts) : Wd))) 40 [(0, vA (mg Γ) l0), (1, vA (mg Γ) l1)] [] (c_X3_open_40 l0 l1) := by
  unfold c_X3_open_40
  refine s_aload_n o dX3_open_40 rfl 0 rfl ?_
  refine r_getf (vA (mg Γ)) rfl o cf_X3_bases (Or.inl (lw_all_tbl q343)) dX3_open_41 (fun v1 hv1 => ?_)
  refine s_aload_n o dX3_open_44 rfl 0 rfl ?_
  refine r_getf vI rfl o cf_X3_frames (Or.inl (lw_all_tbl q344)) dX3_open_45 (fun v2 hv2 => ?_)
  refine s_aload_n o dX3_open_48 rfl 0 rfl ?_
  refine r_getf vI rfl o cf_X3_base (Or.inl (lw_all_tbl q341)) dX3_open_49 (fun v3 hv3 => ?_)
  refine r_iast o hv2 hv3 dX3_open_52 ?_
  refine s_aload_n o dX3_open_53 rfl 0 rfl ?_
  refine s_dup o dX3_open_54 (vA_cat (mg Γ) l0) ?_
  refine r_getf vI rfl o cf_X3_frames (Or.inl (lw_all_tbl q344)) dX3_open_55 (fun v4 hv4 => ?_)
  refine s_iconst o dX3_open_58 ?_
  refine s_iadd o dX3_open_59 ?_
  refine r_putf vI rfl o cf_X3_frames (Or.inl (lw_all_tbl q344)) dX3_open_60 (Or.inl rfl) (w32_R _) ty_int ?_
  refine s_aload_n o dX3_open_63 rfl 0 rfl ?_
  refine s_aload_n o dX3_open_64 rfl 0 rfl ?_
  refine r_getf vI rfl o cf_X3_top (Or.inl (lw_all_tbl q342)) dX3_open_65 (fun v5 hv5 => ?_)
  refine r_putf vI rfl o cf_X3_base (Or.inl (lw_all_tbl q341)) dX3_open_68 (Or.inl rfl) hv5 ty_int ?_
  refine s_aload_n o dX3_open_71 rfl 0 rfl ?_
  refine s_dup o dX3_open_72 (vA_cat (mg Γ) l0) ?_
  refine r_getf vI rfl o cf_X3_top (Or.inl (lw_all_tbl q342)) dX3_open_73 (fun v6 hv6 => ?_)
  refine s_aload_n o dX3_open_76 rfl 1 rfl ?_
  refine s_cvC (d := d + 2) (As := []) (st := [vI v6, vA (mg Γ) l0]) (c := 16) o (sc_X16_variables (mg Γ) d ts l1) mw_X16_variables rfl (Or.inl (lw_all_tbl q2203)) rfl (lw_all_tbl q1617) (lw_all_tbl q1616) (wt_I (wt_A wt_0)) rfl dX3_open_77 rfl (rs := fun r => [vI r, vI v6, vA (mg Γ) l0]) (fun _ => rfl) (fun v7 hv7 => ?_)
  refine s_iadd o dX3_open_80 ?_
  refine r_putf vI rfl o cf_X3_top (Or.inl (lw_all_tbl q342)) dX3_open_81 (Or.inl rfl) (w32_R _) ty_int ?_
  refine s_aload_n o dX3_open_84 rfl 0 rfl ?_
  refine r_getf vI rfl o cf_X3_top (Or.inl (lw_all_tbl q342)) dX3_open_85 (fun v8 hv8 => ?_)
  refine s_aload_n o dX3_open_88 rfl 0 rfl ?_
  refine r_getf (vA (mg Γ)) rfl o cf_X3_slots (Or.inl (lw_all_tbl q340)) dX3_open_89 (fun v9 hv9 => ?_)
  refine s_alen o dX3_open_92 (fun v10 hv10 => ?_)
  refine s_icmp_le (tgt := 111) o dX3_open_93 (by decide) hv8 (rN hv10) ?_ ?_
  · refine r_to [(0, vA (mg Γ) l0)] [0] rfl ?_
    exact sc_X3_open_111 o l0
  · refine s_aload_n o dX3_open_96 rfl 0 rfl ?_
    refine s_aload_n o dX3_open_97 rfl 0 rfl ?_
    refine r_getf (vA (mg Γ)) rfl o cf_X3_slots (Or.inl (lw_all_tbl q340)) dX3_open_98 (fun v11 hv11 => ?_)
    refine s_aload_n o dX3_open_101 rfl 0 rfl ?_
    refine r_getf vI rfl o cf_X3_top (Or.inl (lw_all_tbl q342)) dX3_open_102 (fun v12 hv12 => ?_)
    refine s_cs (d := d + 2) (As := [vA (mg Γ) v11, vI v12]) (st := [vA (mg Γ) l0]) o (sc_X3_longer (mg Γ) (d + 1) ts v11 v12 hv12) mw_X3_longer rfl (Or.inl (lw_all_tbl q2190)) (lw_all_tbl q2191) (wt_A wt_0) rfl dX3_open_105 rfl (rs := fun r => [vA (mg Γ) r, vA (mg Γ) l0]) (fun _ => rfl) (fun v13 hv13 => ?_)
    refine r_putf (vA (mg Γ)) rfl o cf_X3_slots (Or.inl (lw_all_tbl q340)) dX3_open_108 (Or.inl rfl) trivial (ty_array _) ?_
    refine r_to [(0, vA (mg Γ) l0)] [0] rfl ?_
    exact sc_X3_open_111 o l0
noncomputable def c_X3_open (l0 : Int) (l1 : Int) : Mo CH Int :=
  bnd (gf [103] 15 l0) fun v1 =>
  bnd (gf [103] 14 l0) fun v2 =>
  bnd (aln v2) fun v3 =>
  if ¬ v1 = v3 then
    c_X3_open_40 l0 l1
  else
    bnd (gf [103] 15 l0) fun v4 =>
    bnd (newa 0 (w32 (2 * v4))) fun v5 =>
    bnd (gf [103] 14 l0) fun v6 =>
    bnd (gf [103] 15 l0) fun v7 =>
    bnd (acp 0 v6 0 v5 0 v7) fun _ =>
    bnd (pf [103] 14 l0 v5) fun _ =>
    c_X3_open_40 l0 l1
theorem sc_X3_open (g : gC) (d : Nat) (ts : TS) (l0 : Int) (l1 : Int) : SF g yX3_open (Cond.code yX3_open cX3_open 3 (Option.none : Option Jvm.ClassFile.FieldType)) (Option.none : Option Jvm.ClassFile.FieldType) (d + 3) [vA g l0, vA g l1] (fun h => (h, ts)) (c_X3_open l0 l1) := by
  refine SF.of (lv := [(0, vA g l0), (1, vA g l1)]) (by decide) (wt_A (wt_A wt_0)) rfl (by simp only [la_A, la_I, la_J, la_0]) (fun Γ hg hnm o => ?_)
  subst hg
  have o : Ok Γ "LazyForge$Machine" cX3_open 3 (Option.none : Option Jvm.ClassFile.FieldType) (d + 3) := o
  unfold c_X3_open
  refine s_aload_n o dX3_open_0 rfl 0 rfl ?_
  refine r_getf vI rfl o cf_X3_frames (Or.inl (lw_all_tbl q344)) dX3_open_1 (fun v1 hv1 => ?_)
  refine s_aload_n o dX3_open_4 rfl 0 rfl ?_
  refine r_getf (vA (mg Γ)) rfl o cf_X3_bases (Or.inl (lw_all_tbl q343)) dX3_open_5 (fun v2 hv2 => ?_)
  refine s_alen o dX3_open_8 (fun v3 hv3 => ?_)
  refine s_icmp_ne (tgt := 40) o dX3_open_9 (by decide) hv1 (rN hv3) ?_ ?_
  · exact sc_X3_open_40 o l0 l1
  · refine s_iconst o dX3_open_12 ?_
    refine s_aload_n o dX3_open_13 rfl 0 rfl ?_
    refine r_getf vI rfl o cf_X3_frames (Or.inl (lw_all_tbl q344)) dX3_open_14 (fun v4 hv4 => ?_)
    refine s_imul o dX3_open_17 ?_
    refine s_newa (kd := 0) o (by decide) rfl (by decide) (o.ra (by decide)) (lw_all_tbl q439) (w32_R _) dX3_open_18 (fun v5 hv5 => ?_)
    refine r_astore_n o dX3_open_20 rfl rfl ⟨(Nat.ne_of_beq_eq_false rfl), (fun _ => (vA_cat (mg Γ) l0)), ⟨(Nat.ne_of_beq_eq_false rfl), (fun _ => (vA_cat (mg Γ) l1)), trivial⟩⟩ ?_
    refine s_aload_n o dX3_open_21 rfl 1 rfl ?_
    refine r_getf (vA (mg Γ)) rfl o cf_X3_bases (Or.inl (lw_all_tbl q343)) dX3_open_22 (fun v6 hv6 => ?_)
    refine s_iconst o dX3_open_25 ?_
    refine s_aload_n o dX3_open_26 rfl 0 rfl ?_
    refine s_iconst o dX3_open_27 ?_
    refine s_aload_n o dX3_open_28 rfl 1 rfl ?_
    refine r_getf vI rfl o cf_X3_frames (Or.inl (lw_all_tbl q344)) dX3_open_29 (fun v7 hv7 => ?_)
    refine s_acp (kd := 0) (d := d + 2) o (by decide) (fun q => absurd q (by decide)) (lw_all_tbl q2178) (r32 rfl) (r32 rfl) hv7 wt_0 rfl dX3_open_32 (lw_all_tbl q481) (lw_all_tbl q480) (lw_all_tbl q179) ?_
    refine s_aload_n o dX3_open_35 rfl 1 rfl ?_
    refine s_aload_n o dX3_open_36 rfl 0 rfl ?_
    refine r_putf (vA (mg Γ)) rfl o cf_X3_bases (Or.inl (lw_all_tbl q343)) dX3_open_37 (Or.inl rfl) trivial (ty_array _) ?_
    refine r_to [(0, vA (mg Γ) l0), (1, vA (mg Γ) l1)] [1, 2] rfl ?_
    exact sc_X3_open_40 o l0 l1
theorem dX3_set_0 : decode cX3_set 0 = .ok (.aload_n 0, 1) := by decide +kernel
theorem dX3_set_1 : decode cX3_set 1 = .ok (.getfield 59, 3) := by decide +kernel
theorem dX3_set_4 : decode cX3_set 4 = .ok (.aload_n 0, 1) := by decide +kernel
theorem dX3_set_5 : decode cX3_set 5 = .ok (.getfield 98, 3) := by decide +kernel
theorem dX3_set_8 : decode cX3_set 8 = .ok (.iload_n 1, 1) := by decide +kernel
theorem dX3_set_9 : decode cX3_set 9 = .ok (.iadd, 1) := by decide +kernel
theorem dX3_set_10 : decode cX3_set 10 = .ok (.lload_n 2, 1) := by decide +kernel
theorem dX3_set_11 : decode cX3_set 11 = .ok (.lastore, 1) := by decide +kernel
theorem dX3_set_12 : decode cX3_set 12 = .ok (.return_, 1) := by decide +kernel
theorem mw_X3_set : MW yX3_set (Cond.code yX3_set cX3_set 4 (Option.none : Option Jvm.ClassFile.FieldType)) cX3_set 4 (Option.none : Option Jvm.ClassFile.FieldType) 2 := ⟨rfl, ⟨(lw_all_tbl q2207), rfl, (lw_all_tbl q165)⟩, rfl, ⟨by decide, by decide⟩, by decide +kernel⟩
noncomputable def c_X3_set (l0 : Int) (l1 : Int) (l2 : Int) : Mo CH Int :=
  bnd (gf [103] 11 l0) fun v1 =>
  bnd (gf [103] 12 l0) fun v2 =>
  bnd (ast 1 v1 (w32 (v2 + l1)) l2) fun _ =>
  pr 0
theorem sc_X3_set (g : gC) (d : Nat) (ts : TS) (l0 : Int) (l1 : Int) (l2 : Int) (hl1 : R32 l1) (hl2 : R64 l2) : SF g yX3_set (Cond.code yX3_set cX3_set 4 (Option.none : Option Jvm.ClassFile.FieldType)) (Option.none : Option Jvm.ClassFile.FieldType) (d + 0) [vA g l0, vI l1, vJ l2] (fun h => (h, ts)) (c_X3_set l0 l1 l2) := by
  refine SF.of (lv := [(0, vA g l0), (1, vI l1), (2, vJ l2)]) (by decide) (wt_A (wt_I (wt_J wt_0))) rfl (by simp only [la_A, la_I, la_J, la_0]) (fun Γ hg hnm o => ?_)
  subst hg
  have o : Ok Γ "LazyForge$Machine" cX3_set 4 (Option.none : Option Jvm.ClassFile.FieldType) (d + 0) := o
  unfold c_X3_set
  refine s_aload_n o dX3_set_0 rfl 0 rfl ?_
  refine r_getf (vA (mg Γ)) rfl o cf_X3_slots (Or.inl (lw_all_tbl q340)) dX3_set_1 (fun v1 hv1 => ?_)
  refine s_aload_n o dX3_set_4 rfl 0 rfl ?_
  refine r_getf vI rfl o cf_X3_base (Or.inl (lw_all_tbl q341)) dX3_set_5 (fun v2 hv2 => ?_)
  refine s_iload_n o dX3_set_8 rfl 1 rfl ?_
  refine s_iadd o dX3_set_9 ?_
  refine s_lload_n o dX3_set_10 rfl 2 rfl ?_
  refine r_last o (w32_R _) hl2 dX3_set_11 ?_
  exact s_vret o rfl dX3_set_12 (fun _ hh => hh)
theorem dX3_work_0 : decode cX3_work 0 = .ok (.aload_n 0, 1) := by decide +kernel
theorem dX3_work_1 : decode cX3_work 1 = .ok (.aload_n 1, 1) := by decide +kernel
theorem dX3_work_2 : decode cX3_work 2 = .ok (.iconst 0, 1) := by decide +kernel
theorem dX3_work_3 : decode cX3_work 3 = .ok (.invokevirtual 81, 3) := by decide +kernel
theorem dX3_work_6 : decode cX3_work 6 = .ok (.return_, 1) := by decide +kernel
theorem mw_X3_work : MW yX3_work (Cond.code yX3_work cX3_work 2 (Option.none : Option Jvm.ClassFile.FieldType)) cX3_work 2 (Option.none : Option Jvm.ClassFile.FieldType) 1 := ⟨rfl, ⟨(lw_all_tbl q2211), rfl, (lw_all_tbl q165)⟩, rfl, ⟨by decide, by decide⟩, by decide +kernel⟩
noncomputable def c_X3_work (l0 : Int) (l1 : Int) : Mo CH Int :=
  bnd (isk 103 l0) fun _ =>
  bnd (c_X3_again l0 l1 0) fun _ =>
  pr 0
theorem sc_X3_work (g : gC) (d : Nat) (ts : TS) (l0 : Int) (l1 : Int) : SF g yX3_work (Cond.code yX3_work cX3_work 2 (Option.none : Option Jvm.ClassFile.FieldType)) (Option.none : Option Jvm.ClassFile.FieldType) (d + 2) [vA g l0, vA g l1] (fun h => (h, ts)) (c_X3_work l0 l1) := by
  refine SF.of (lv := [(0, vA g l0), (1, vA g l1)]) (by decide) (wt_A (wt_A wt_0)) rfl (by simp only [la_A, la_I, la_J, la_0]) (fun Γ hg hnm o => ?_)
  subst hg
  have o : Ok Γ "LazyForge$Machine" cX3_work 2 (Option.none : Option Jvm.ClassFile.FieldType) (d + 2) := o
  unfold c_X3_work
  refine s_aload_n o dX3_work_0 rfl 0 rfl ?_
  refine s_aload_n o dX3_work_1 rfl 1 rfl ?_
  refine s_iconst o dX3_work_2 ?_
  refine s_cvC (d := d + 1) (As := [vA (mg Γ) l1, vI 0]) (st := []) (c := 3) o (sc_X3_again (mg Γ) d ts l0 l1 0 (r32 rfl)) mw_X3_again rfl (Or.inl (lw_all_tbl q2174)) rfl (lw_all_tbl q2176) (lw_all_tbl q2175) wt_0 rfl dX3_work_3 rfl (rs := fun _ => []) (fun _ => rfl) (fun _ _ => ?_)
  exact s_vret o rfl dX3_work_6 (fun _ hh => hh)
theorem dX3_enter_0 : decode cX3_enter 0 = .ok (.lload_n 1, 1) := by decide +kernel
theorem dX3_enter_1 : decode cX3_enter 1 = .ok (.ldc2_w 144, 3) := by decide +kernel
theorem dX3_enter_4 : decode cX3_enter 4 = .ok (.invokestatic 176, 3) := by decide +kernel
theorem dX3_enter_7 : decode cX3_enter 7 = .ok (.ifCond .ne 9, 3) := by decide +kernel
theorem dX3_enter_10 : decode cX3_enter 10 = .ok (.aload_n 0, 1) := by decide +kernel
theorem dX3_enter_11 : decode cX3_enter 11 = .ok (.lload_n 1, 1) := by decide +kernel
theorem dX3_enter_12 : decode cX3_enter 12 = .ok (.invokevirtual 162, 3) := by decide +kernel
theorem dX3_enter_15 : decode cX3_enter 15 = .ok (.return_, 1) := by decide +kernel
theorem dX3_enter_16 : decode cX3_enter 16 = .ok (.lload_n 1, 1) := by decide +kernel
theorem dX3_enter_17 : decode cX3_enter 17 = .ok (.l2i, 1) := by decide +kernel
theorem dX3_enter_18 : decode cX3_enter 18 = .ok (.istore_n 3, 1) := by decide +kernel
theorem dX3_enter_19 : decode cX3_enter 19 = .ok (.aload_n 0, 1) := by decide +kernel
theorem dX3_enter_20 : decode cX3_enter 20 = .ok (.getfield 42, 3) := by decide +kernel
theorem dX3_enter_23 : decode cX3_enter 23 = .ok (.iload_n 3, 1) := by decide +kernel
theorem dX3_enter_24 : decode cX3_enter 24 = .ok (.laload, 1) := by decide +kernel
theorem dX3_enter_25 : decode cX3_enter 25 = .ok (.lstore 4, 2) := by decide +kernel
theorem dX3_enter_27 : decode cX3_enter 27 = .ok (.lload 4, 2) := by decide +kernel
theorem dX3_enter_29 : decode cX3_enter 29 = .ok (.ldc2_w 180, 3) := by decide +kernel
theorem dX3_enter_32 : decode cX3_enter 32 = .ok (.invokestatic 176, 3) := by decide +kernel
theorem dX3_enter_35 : decode cX3_enter 35 = .ok (.ifCond .eq 11, 3) := by decide +kernel
theorem dX3_enter_38 : decode cX3_enter 38 = .ok (.aload_n 0, 1) := by decide +kernel
theorem dX3_enter_39 : decode cX3_enter 39 = .ok (.iconst 3, 1) := by decide +kernel
theorem dX3_enter_40 : decode cX3_enter 40 = .ok (.invokevirtual 182, 3) := by decide +kernel
theorem dX3_enter_43 : decode cX3_enter 43 = .ok (.goto 117, 3) := by decide +kernel
theorem dX3_enter_46 : decode cX3_enter 46 = .ok (.lload 4, 2) := by decide +kernel
theorem dX3_enter_48 : decode cX3_enter 48 = .ok (.ldc2_w 141, 3) := by decide +kernel
theorem dX3_enter_51 : decode cX3_enter 51 = .ok (.invokestatic 176, 3) := by decide +kernel
theorem dX3_enter_54 : decode cX3_enter 54 = .ok (.ifCond .ne 12, 3) := by decide +kernel
theorem dX3_enter_57 : decode cX3_enter 57 = .ok (.aload_n 0, 1) := by decide +kernel
theorem dX3_enter_58 : decode cX3_enter 58 = .ok (.lload 4, 2) := by decide +kernel
theorem dX3_enter_60 : decode cX3_enter 60 = .ok (.invokevirtual 162, 3) := by decide +kernel
theorem dX3_enter_63 : decode cX3_enter 63 = .ok (.goto 97, 3) := by decide +kernel
theorem dX3_enter_66 : decode cX3_enter 66 = .ok (.aload_n 0, 1) := by decide +kernel
theorem dX3_enter_67 : decode cX3_enter 67 = .ok (.getfield 186, 3) := by decide +kernel
theorem dX3_enter_70 : decode cX3_enter 70 = .ok (.getfield 190, 3) := by decide +kernel
theorem dX3_enter_73 : decode cX3_enter 73 = .ok (.lload 4, 2) := by decide +kernel
theorem dX3_enter_75 : decode cX3_enter 75 = .ok (.l2i, 1) := by decide +kernel
theorem dX3_enter_76 : decode cX3_enter 76 = .ok (.invokevirtual 196, 3) := by decide +kernel
theorem dX3_enter_79 : decode cX3_enter 79 = .ok (.checkcast 46, 3) := by decide +kernel
theorem dX3_enter_82 : decode cX3_enter 82 = .ok (.astore 6, 2) := by decide +kernel
theorem dX3_enter_84 : decode cX3_enter 84 = .ok (.aload_n 0, 1) := by decide +kernel
theorem dX3_enter_85 : decode cX3_enter 85 = .ok (.getfield 42, 3) := by decide +kernel
theorem dX3_enter_88 : decode cX3_enter 88 = .ok (.iload_n 3, 1) := by decide +kernel
theorem dX3_enter_89 : decode cX3_enter 89 = .ok (.ldc2_w 180, 3) := by decide +kernel
theorem dX3_enter_92 : decode cX3_enter 92 = .ok (.lastore, 1) := by decide +kernel
theorem dX3_enter_93 : decode cX3_enter 93 = .ok (.aload_n 0, 1) := by decide +kernel
theorem dX3_enter_94 : decode cX3_enter 94 = .ok (.aload_n 0, 1) := by decide +kernel
theorem dX3_enter_95 : decode cX3_enter 95 = .ok (.getfield 12, 3) := by decide +kernel
theorem dX3_enter_98 : decode cX3_enter 98 = .ok (.iload_n 3, 1) := by decide +kernel
theorem dX3_enter_99 : decode cX3_enter 99 = .ok (.invokevirtual 81, 3) := by decide +kernel
theorem dX3_enter_102 : decode cX3_enter 102 = .ok (.aload_n 0, 1) := by decide +kernel
theorem dX3_enter_103 : decode cX3_enter 103 = .ok (.aload 6, 2) := by decide +kernel
theorem dX3_enter_105 : decode cX3_enter 105 = .ok (.getfield 202, 3) := by decide +kernel
theorem dX3_enter_108 : decode cX3_enter 108 = .ok (.invokevirtual 206, 3) := by decide +kernel
theorem dX3_enter_111 : decode cX3_enter 111 = .ok (.iconst 0, 1) := by decide +kernel
theorem dX3_enter_112 : decode cX3_enter 112 = .ok (.istore 7, 2) := by decide +kernel
theorem dX3_enter_114 : decode cX3_enter 114 = .ok (.iload 7, 2) := by decide +kernel
theorem dX3_enter_116 : decode cX3_enter 116 = .ok (.aload 6, 2) := by decide +kernel
theorem dX3_enter_118 : decode cX3_enter 118 = .ok (.getfield 135, 3) := by decide +kernel
theorem dX3_enter_121 : decode cX3_enter 121 = .ok (.arraylength, 1) := by decide +kernel
theorem dX3_enter_122 : decode cX3_enter 122 = .ok (.if_icmp .ge 32, 3) := by decide +kernel
theorem dX3_enter_125 : decode cX3_enter 125 = .ok (.aload_n 0, 1) := by decide +kernel
theorem dX3_enter_126 : decode cX3_enter 126 = .ok (.aload 6, 2) := by decide +kernel
theorem dX3_enter_128 : decode cX3_enter 128 = .ok (.getfield 135, 3) := by decide +kernel
theorem dX3_enter_131 : decode cX3_enter 131 = .ok (.iload 7, 2) := by decide +kernel
theorem dX3_enter_133 : decode cX3_enter 133 = .ok (.iaload, 1) := by decide +kernel
theorem dX3_enter_134 : decode cX3_enter 134 = .ok (.aload_n 0, 1) := by decide +kernel
theorem dX3_enter_135 : decode cX3_enter 135 = .ok (.getfield 42, 3) := by decide +kernel
theorem dX3_enter_138 : decode cX3_enter 138 = .ok (.iload_n 3, 1) := by decide +kernel
theorem dX3_enter_139 : decode cX3_enter 139 = .ok (.iconst 1, 1) := by decide +kernel
theorem dX3_enter_140 : decode cX3_enter 140 = .ok (.iadd, 1) := by decide +kernel
theorem dX3_enter_141 : decode cX3_enter 141 = .ok (.iload 7, 2) := by decide +kernel
theorem dX3_enter_143 : decode cX3_enter 143 = .ok (.iadd, 1) := by decide +kernel
theorem dX3_enter_144 : decode cX3_enter 144 = .ok (.laload, 1) := by decide +kernel
theorem dX3_enter_145 : decode cX3_enter 145 = .ok (.invokevirtual 210, 3) := by decide +kernel
theorem dX3_enter_148 : decode cX3_enter 148 = .ok (.iinc 7 1, 3) := by decide +kernel
theorem dX3_enter_151 : decode cX3_enter 151 = .ok (.goto (-37), 3) := by decide +kernel
theorem dX3_enter_154 : decode cX3_enter 154 = .ok (.aload_n 0, 1) := by decide +kernel
theorem dX3_enter_155 : decode cX3_enter 155 = .ok (.aload 6, 2) := by decide +kernel
theorem dX3_enter_157 : decode cX3_enter 157 = .ok (.invokevirtual 214, 3) := by decide +kernel
theorem dX3_enter_160 : decode cX3_enter 160 = .ok (.return_, 1) := by decide +kernel
theorem mw_X3_enter : MW yX3_enter (Cond.code yX3_enter cX3_enter 8 (Option.none : Option Jvm.ClassFile.FieldType)) cX3_enter 8 (Option.none : Option Jvm.ClassFile.FieldType) 1 := ⟨rfl, ⟨(lw_all_tbl q2182), rfl, (lw_all_tbl q165)⟩, rfl, ⟨by decide, by decide⟩, by decide +kernel⟩
abbrev okc_X3_enter_114 (x : Int × Int × Int × Int) : Prop := R32 x.2.1 ∧ R32 x.2.2.2
abbrev lvc_X3_enter_114 (Γ : Gm) (x : Int × Int × Int × Int) : List (Nat × Value) := [(0, vA (mg Γ) x.1), (3, vI x.2.1), (6, vA (mg Γ) x.2.2.1), (7, vI x.2.2.2)]
noncomputable def c_X3_enter_114b {A : Type} (k_154 : Int → Int → Mo CH A) (l0 : Int) (l3 : Int) (l6 : Int) (l7 : Int) : Mo CH ((Int × Int × Int × Int) ⊕ A) :=
  bnd (gf [106, 107, 108, 109, 110, 118, 119, 120, 121, 122, 123, 124, 125, 126] 3 l6) fun v1 =>
  bnd (aln v1) fun v2 =>
  if v2 ≤ l7 then
    lo (k_154 l0 l6)
  else
    bnd (gf [106, 107, 108, 109, 110, 118, 119, 120, 121, 122, 123, 124, 125, 126] 3 l6) fun v3 =>
    bnd (ald 0 v3 l7) fun v4 =>
    bnd (gf [103] 5 l0) fun v5 =>
    bnd (ald 1 v5 (w32 ((w32 (l3 + 1)) + l7))) fun v6 =>
    bnd (isk 103 l0) fun _ =>
    bnd (c_X3_set l0 v4 v6) fun _ =>
    pr (.inl (l0, l3, l6, (w32 (l7 + 1))))
theorem sc_X3_enter_114b {Γ : Gm} {ts : TS} {d : Nat} (o : Ok Γ "LazyForge$Machine" cX3_enter 8 (Option.none : Option Jvm.ClassFile.FieldType) (d + 4)) {A : Type} {K : A → CH → Prop} (k_154 : Int → Int → Mo CH A) (hk_154 : ∀ (l0 : Int) (l6 : Int), Sx Γ (fun h => (h, ts)) K 154 [(0, vA (mg Γ) l0), (6, vA (mg Γ) l6)] [] (k_154 l0 l6)) (l0 : Int) (l3 : Int) (l6 : Int) (l7 : Int) (hl3 : R32 l3) (hl7 : R32 l7) : Sx Γ (fun h => (h, ts)) (KL Γ (fun h => (h, ts)) okc_X3_enter_114 K 114 (lvc_X3_enter_114 Γ) []) 114 [(0, vA (mg Γ) l0), (3, vI l3), (6, vA (mg Γ) l6), (7, vI l7)] [] (c_X3_enter_114b k_154 l0 l3 l6 l7) := by
  unfold c_X3_enter_114b
  refine s_iload o dX3_enter_114 3 rfl ?_
  refine s_aload o dX3_enter_116 2 rfl ?_
  refine r_getf (vA (mg Γ)) rfl o cf_X4_captured (Or.inr (Or.inl ⟨_, q264⟩)) dX3_enter_118 (fun v1 hv1 => ?_)
  refine s_alen o dX3_enter_121 (fun v2 hv2 => ?_)
  refine s_icmp_ge (tgt := 154) o dX3_enter_122 (by decide) hl7 (rN hv2) ?_ ?_
  · refine r_to [(0, vA (mg Γ) l0), (6, vA (mg Γ) l6)] [0, 2] rfl ?_
    exact s_lo (hk_154 l0 l6)
  · refine s_aload_n o dX3_enter_125 rfl 0 rfl ?_
    refine s_aload o dX3_enter_126 2 rfl ?_
    refine r_getf (vA (mg Γ)) rfl o cf_X4_captured (Or.inr (Or.inl ⟨_, q264⟩)) dX3_enter_128 (fun v3 hv3 => ?_)
    refine s_iload o dX3_enter_131 3 rfl ?_
    refine r_iald o hl7 dX3_enter_133 (fun v4 hv4 => ?_)
    refine s_aload_n o dX3_enter_134 rfl 0 rfl ?_
    refine r_getf (vA (mg Γ)) rfl o cf_X3_cells (Or.inl (lw_all_tbl q333)) dX3_enter_135 (fun v5 hv5 => ?_)
    refine s_iload_n o dX3_enter_138 rfl 1 rfl ?_
    refine s_iconst o dX3_enter_139 ?_
    refine s_iadd o dX3_enter_140 ?_
    refine s_iload o dX3_enter_141 3 rfl ?_
    refine s_iadd o dX3_enter_143 ?_
    refine r_lald o (w32_R _) dX3_enter_144 (fun v6 hv6 => ?_)
    refine s_cvC (d := d + 3) (As := [vI v4, vJ v6]) (st := []) (c := 3) o (sc_X3_set (mg Γ) (d + 3) ts l0 v4 v6 hv4 hv6) mw_X3_set rfl (Or.inl (lw_all_tbl q2204)) rfl (lw_all_tbl q2206) (lw_all_tbl q2205) wt_0 rfl dX3_enter_145 rfl (rs := fun _ => []) (fun _ => rfl) (fun _ _ => ?_)
    refine r_iinc (j := 3) o dX3_enter_148 rfl rfl [(0, vA (mg Γ) l0), (3, vI l3), (6, vA (mg Γ) l6)] [0, 1, 2] rfl ⟨(Nat.ne_of_beq_eq_false rfl), (fun _ => (vA_cat (mg Γ) l0)), ⟨(Nat.ne_of_beq_eq_false rfl), (fun _ => rfl), ⟨(Nat.ne_of_beq_eq_false rfl), (fun _ => (vA_cat (mg Γ) l6)), trivial⟩⟩⟩ ?_
    refine s_goto (tgt := 114) o dX3_enter_151 (by decide) ?_
    refine r_to [(0, vA (mg Γ) l0), (3, vI l3), (6, vA (mg Γ) l6), (7, vI (w32 (l7 + 1)))] [1, 2, 3, 0] rfl ?_
    exact s_back (⟨hl3, (w32_R _)⟩) rfl
noncomputable def c_X3_enter_114 {A : Type} (k_154 : Int → Int → Mo CH A) (l0 : Int) (l3 : Int) (l6 : Int) (l7 : Int) : Mo CH A := Loop (fun x => c_X3_enter_114b k_154 x.1 x.2.1 x.2.2.1 x.2.2.2) (l0, l3, l6, l7)
theorem sc_X3_enter_114 {Γ : Gm} {ts : TS} {d : Nat} (o : Ok Γ "LazyForge$Machine" cX3_enter 8 (Option.none : Option Jvm.ClassFile.FieldType) (d + 4)) {A : Type} {K : A → CH → Prop} (k_154 : Int → Int → Mo CH A) (hk_154 : ∀ (l0 : Int) (l6 : Int), Sx Γ (fun h => (h, ts)) K 154 [(0, vA (mg Γ) l0), (6, vA (mg Γ) l6)] [] (k_154 l0 l6)) (l0 : Int) (l3 : Int) (l6 : Int) (l7 : Int) (hl3 : R32 l3) (hl7 : R32 l7) : Sx Γ (fun h => (h, ts)) K 114 [(0, vA (mg Γ) l0), (3, vI l3), (6, vA (mg Γ) l6), (7, vI l7)] [] (c_X3_enter_114 k_154 l0 l3 l6 l7) :=
  s_loop okc_X3_enter_114 (lvc_X3_enter_114 Γ) (fun x hx => sc_X3_enter_114b o k_154 hk_154 x.1 x.2.1 x.2.2.1 x.2.2.2 hx.1 hx.2) (x := (l0, l3, l6, l7)) ⟨hl3, hl7⟩
noncomputable def c_X3_enter (l0 : Int) (l1 : Int) : Mo CH Int :=
  bnd (c_X1_isSort l1 21474836480) fun v1 =>
  if ¬ v1 = 0 then
    bnd (gf [103] 5 l0) fun v2 =>
    bnd (ald 1 v2 (l2i l1)) fun v3 =>
    bnd (c_X1_isSort v3 38654705664) fun v4 =>
    if v4 = 0 then
      bnd (c_X1_isSort v3 34359738368) fun v5 =>
      if ¬ v5 = 0 then
        bnd (gf [103] 16 l0) fun v6 =>
        bnd (gf [115] 1 v6) fun v7 =>
        bnd (isk 127 v7) fun _ =>
        bnd (c_J13_get v7 (l2i v3)) fun v8 =>
        bnd (ckk [106, 107, 108, 109, 110, 118, 119, 120, 121, 122, 123, 124, 125, 126] v8) fun _ =>
        bnd (gf [103] 5 l0) fun v9 =>
        bnd (ast 1 v9 (l2i l1) 38654705664) fun _ =>
        bnd (gf [103] 0 l0) fun v10 =>
        bnd (isk 103 l0) fun _ =>
        bnd (c_X3_again l0 v10 (l2i l1)) fun _ =>
        bnd (gf [106, 107, 108, 109, 110, 118, 119, 120, 121, 122, 123, 124, 125, 126] 4 v8) fun v11 =>
        bnd (isk 103 l0) fun _ =>
        bnd (c_X3_open l0 v11) fun _ =>
        c_X3_enter_114
          (fun v12 v13 => bnd (isk 103 v12) fun _ =>
        bnd (c_X3_work v12 v13) fun _ =>
        pr 0) l0 (l2i l1) v8 0
      else
        bnd (isk 103 l0) fun _ =>
        bnd (c_X3_give l0 v3) fun _ =>
        pr 0
    else
      bnd (isk 103 l0) fun _ =>
      bnd (c_X3_fault l0 3) fun _ =>
      pr 0
  else
    bnd (isk 103 l0) fun _ =>
    bnd (c_X3_give l0 l1) fun _ =>
    pr 0
theorem sc_X3_enter (g : gC) (d : Nat) (ts : TS) (l0 : Int) (l1 : Int) (hl1 : R64 l1) : SF g yX3_enter (Cond.code yX3_enter cX3_enter 8 (Option.none : Option Jvm.ClassFile.FieldType)) (Option.none : Option Jvm.ClassFile.FieldType) (d + 4) [vA g l0, vJ l1] (fun h => (h, ts)) (c_X3_enter l0 l1) := by
  refine SF.of (lv := [(0, vA g l0), (1, vJ l1)]) (by decide) (wt_A (wt_J wt_0)) rfl (by simp only [la_A, la_I, la_J, la_0]) (fun Γ hg hnm o => ?_)
  subst hg
  have o : Ok Γ "LazyForge$Machine" cX3_enter 8 (Option.none : Option Jvm.ClassFile.FieldType) (d + 4) := o
  unfold c_X3_enter
  refine s_lload_n o dX3_enter_0 rfl 1 rfl ?_
  refine s_ldc2 (n := 21474836480) o dX3_enter_1 (lw_all_tbl q2173) rfl ?_
  refine s_cs (d := d + 3) (As := [vJ l1, vJ 21474836480]) (st := []) o (sc_X1_isSort (mg Γ) (d + 3) ts l1 21474836480 hl1 (r64 rfl)) mw_X1_isSort rfl (Or.inr ⟨_, q2183⟩) (lw_all_tbl q2184) wt_0 rfl dX3_enter_4 rfl (rs := fun r => [vI r]) (fun _ => rfl) (fun v1 hv1 => ?_)
  refine s_if_ne (tgt := 16) o dX3_enter_7 (by decide) (rZ (hv1 _ rfl)) ?_ ?_
  · refine s_lload_n o dX3_enter_16 rfl 1 rfl ?_
    refine s_l2i o dX3_enter_17 ?_
    refine r_istore_n o dX3_enter_18 rfl rfl ⟨(Nat.ne_of_beq_eq_false rfl), (fun _ => (vA_cat (mg Γ) l0)), ⟨(Nat.ne_of_beq_eq_false rfl), (fun e => absurd e (Nat.ne_of_beq_eq_false rfl)), trivial⟩⟩ ?_
    refine s_aload_n o dX3_enter_19 rfl 1 rfl ?_
    refine r_getf (vA (mg Γ)) rfl o cf_X3_cells (Or.inl (lw_all_tbl q333)) dX3_enter_20 (fun v2 hv2 => ?_)
    refine s_iload_n o dX3_enter_23 rfl 0 rfl ?_
    refine r_lald o (l2i_R _) dX3_enter_24 (fun v3 hv3 => ?_)
    refine r_lstore o dX3_enter_25 rfl ⟨(Nat.ne_of_beq_eq_false rfl), (Nat.ne_of_beq_eq_false rfl), (fun _ => rfl), ⟨(Nat.ne_of_beq_eq_false rfl), (Nat.ne_of_beq_eq_false rfl), (fun _ => (vA_cat (mg Γ) l0)), ⟨(Nat.ne_of_beq_eq_false rfl), (Nat.ne_of_beq_eq_false rfl), (fun e => absurd e (Nat.ne_of_beq_eq_false rfl)), trivial⟩⟩⟩ ?_
    refine s_lload o dX3_enter_27 0 rfl ?_
    refine s_ldc2 (n := 38654705664) o dX3_enter_29 (lw_all_tbl q2194) rfl ?_
    refine s_cs (d := d + 3) (As := [vJ v3, vJ 38654705664]) (st := []) o (sc_X1_isSort (mg Γ) (d + 3) ts v3 38654705664 hv3 (r64 rfl)) mw_X1_isSort rfl (Or.inr ⟨_, q2183⟩) (lw_all_tbl q2184) wt_0 rfl dX3_enter_32 rfl (rs := fun r => [vI r]) (fun _ => rfl) (fun v4 hv4 => ?_)
    refine s_if_eq (tgt := 46) o dX3_enter_35 (by decide) (rZ (hv4 _ rfl)) ?_ ?_
    · refine s_lload o dX3_enter_46 0 rfl ?_
      refine s_ldc2 (n := 34359738368) o dX3_enter_48 (lw_all_tbl q2172) rfl ?_
      refine s_cs (d := d + 3) (As := [vJ v3, vJ 34359738368]) (st := []) o (sc_X1_isSort (mg Γ) (d + 3) ts v3 34359738368 hv3 (r64 rfl)) mw_X1_isSort rfl (Or.inr ⟨_, q2183⟩) (lw_all_tbl q2184) wt_0 rfl dX3_enter_51 rfl (rs := fun r => [vI r]) (fun _ => rfl) (fun v5 hv5 => ?_)
      refine s_if_ne (tgt := 66) o dX3_enter_54 (by decide) (rZ (hv5 _ rfl)) ?_ ?_
      · refine s_aload_n o dX3_enter_66 rfl 2 rfl ?_
        refine r_getf (vA (mg Γ)) rfl o cf_X3_program (Or.inl (lw_all_tbl q345)) dX3_enter_67 (fun v6 hv6 => ?_)
        refine r_getf (vA (mg Γ)) rfl o cf_X15_suspended (Or.inr (Or.inl ⟨_, q1063⟩)) dX3_enter_70 (fun v7 hv7 => ?_)
        refine s_lload o dX3_enter_73 0 rfl ?_
        refine s_l2i o dX3_enter_75 ?_
        refine s_cvC (d := d + 3) (As := [vI (l2i v3)]) (st := []) (c := 27) o (sc_J13_get (mg Γ) (d + 1) ts v7 (l2i v3) (l2i_R _)) mw_J13_get rfl (Or.inl (lw_all_tbl q2156)) rfl (lw_all_tbl q1268) (lw_all_tbl q1267) wt_0 rfl dX3_enter_76 rfl (rs := fun r => [vA (mg Γ) r]) (fun _ => rfl) (fun v8 hv8 => ?_)
        refine s_cast o (cs_X4 o) (lw_all_tbl q326) dX3_enter_79 ?_
        refine r_astore o dX3_enter_82 rfl ⟨(Nat.ne_of_beq_eq_false rfl), (fun e => absurd e (Nat.ne_of_beq_eq_false rfl)), ⟨(Nat.ne_of_beq_eq_false rfl), (fun _ => rfl), ⟨(Nat.ne_of_beq_eq_false rfl), (fun _ => (vA_cat (mg Γ) l0)), ⟨(Nat.ne_of_beq_eq_false rfl), (fun e => absurd e (Nat.ne_of_beq_eq_false rfl)), trivial⟩⟩⟩⟩ ?_
        refine s_aload_n o dX3_enter_84 rfl 3 rfl ?_
        refine r_getf (vA (mg Γ)) rfl o cf_X3_cells (Or.inl (lw_all_tbl q333)) dX3_enter_85 (fun v9 hv9 => ?_)
        refine s_iload_n o dX3_enter_88 rfl 2 rfl ?_
        refine s_ldc2 (n := 38654705664) o dX3_enter_89 (lw_all_tbl q2194) rfl ?_
        refine r_last o (l2i_R _) (r64 rfl) dX3_enter_92 ?_
        refine s_aload_n o dX3_enter_93 rfl 3 rfl ?_
        refine s_aload_n o dX3_enter_94 rfl 3 rfl ?_
        refine r_getf (vA (mg Γ)) rfl o cf_X3_update (Or.inl (lw_all_tbl q328)) dX3_enter_95 (fun v10 hv10 => ?_)
        refine s_iload_n o dX3_enter_98 rfl 2 rfl ?_
        refine s_cvC (d := d + 3) (As := [vA (mg Γ) v10, vI (l2i l1)]) (st := []) (c := 3) o (sc_X3_again (mg Γ) (d + 2) ts l0 v10 (l2i l1) (l2i_R _)) mw_X3_again rfl (Or.inl (lw_all_tbl q2174)) rfl (lw_all_tbl q2176) (lw_all_tbl q2175) wt_0 rfl dX3_enter_99 rfl (rs := fun _ => []) (fun _ => rfl) (fun _ _ => ?_)
        refine s_aload_n o dX3_enter_102 rfl 3 rfl ?_
        refine s_aload o dX3_enter_103 0 rfl ?_
        refine r_getf (vA (mg Γ)) rfl o cf_X4_in (Or.inr (Or.inl ⟨_, q266⟩)) dX3_enter_105 (fun v11 hv11 => ?_)
        refine s_cvC (d := d + 3) (As := [vA (mg Γ) v11]) (st := []) (c := 3) o (sc_X3_open (mg Γ) d ts l0 v11) mw_X3_open rfl (Or.inl (lw_all_tbl q2199)) rfl (lw_all_tbl qs51) (lw_all_tbl q2201) wt_0 rfl dX3_enter_108 rfl (rs := fun _ => []) (fun _ => rfl) (fun _ _ => ?_)
        refine s_iconst o dX3_enter_111 ?_
        refine r_istore o dX3_enter_112 rfl ⟨(Nat.ne_of_beq_eq_false rfl), (fun _ => (vA_cat (mg Γ) v8)), ⟨(Nat.ne_of_beq_eq_false rfl), (fun e => absurd e (Nat.ne_of_beq_eq_false rfl)), ⟨(Nat.ne_of_beq_eq_false rfl), (fun _ => rfl), ⟨(Nat.ne_of_beq_eq_false rfl), (fun _ => (vA_cat (mg Γ) l0)), ⟨(Nat.ne_of_beq_eq_false rfl), (fun e => absurd e (Nat.ne_of_beq_eq_false rfl)), trivial⟩⟩⟩⟩⟩ ?_
        refine r_to [(0, vA (mg Γ) l0), (3, vI (l2i l1)), (6, vA (mg Γ) v8), (7, vI 0)] [4, 3, 1, 0] rfl ?_
        refine sc_X3_enter_114 o _ ?_ l0 (l2i l1) v8 0 (l2i_R _) (r32 rfl)
        · intro v12 v13
          refine s_aload_n o dX3_enter_154 rfl 0 rfl ?_
          refine s_aload o dX3_enter_155 1 rfl ?_
          refine s_cvC (d := d + 3) (As := [vA (mg Γ) v13]) (st := []) (c := 3) o (sc_X3_work (mg Γ) (d + 1) ts v12 v13) mw_X3_work rfl (Or.inl (lw_all_tbl q2208)) rfl (lw_all_tbl q2210) (lw_all_tbl q2209) wt_0 rfl dX3_enter_157 rfl (rs := fun _ => []) (fun _ => rfl) (fun _ _ => ?_)
          exact s_vret o rfl dX3_enter_160 (fun _ hh => hh)
      · refine s_aload_n o dX3_enter_57 rfl 2 rfl ?_
        refine s_lload o dX3_enter_58 0 rfl ?_
        refine s_cvC (d := d + 3) (As := [vJ v3]) (st := []) (c := 3) o (sc_X3_give (mg Γ) (d + 1) ts l0 v3 hv3) mw_X3_give rfl (Or.inl (lw_all_tbl q2186)) rfl (lw_all_tbl q2188) (lw_all_tbl q2187) wt_0 rfl dX3_enter_60 rfl (rs := fun _ => []) (fun _ => rfl) (fun _ _ => ?_)
        refine s_goto (tgt := 160) o dX3_enter_63 (by decide) ?_
        exact s_vret o rfl dX3_enter_160 (fun _ hh => hh)
    · refine s_aload_n o dX3_enter_38 rfl 2 rfl ?_
      refine s_iconst o dX3_enter_39 ?_
      refine s_cvC (d := d + 3) (As := [vI 3]) (st := []) (c := 3) o (sc_X3_fault (mg Γ) (d + 2) ts l0 3 (r32 rfl)) mw_X3_fault rfl (Or.inl (lw_all_tbl q2195)) rfl (lw_all_tbl q2197) (lw_all_tbl q2196) wt_0 rfl dX3_enter_40 rfl (rs := fun _ => []) (fun _ => rfl) (fun _ _ => ?_)
      refine s_goto (tgt := 160) o dX3_enter_43 (by decide) ?_
      exact s_vret o rfl dX3_enter_160 (fun _ hh => hh)
  · refine s_aload_n o dX3_enter_10 rfl 0 rfl ?_
    refine s_lload_n o dX3_enter_11 rfl 1 rfl ?_
    refine s_cvC (d := d + 3) (As := [vJ l1]) (st := []) (c := 3) o (sc_X3_give (mg Γ) (d + 1) ts l0 l1 hl1) mw_X3_give rfl (Or.inl (lw_all_tbl q2186)) rfl (lw_all_tbl q2188) (lw_all_tbl q2187) wt_0 rfl dX3_enter_12 rfl (rs := fun _ => []) (fun _ => rfl) (fun _ _ => ?_)
    exact s_vret o rfl dX3_enter_15 (fun _ hh => hh)
theorem dX9_step_0 : decode cX9_step 0 = .ok (.aload_n 1, 1) := by decide +kernel
theorem dX9_step_1 : decode cX9_step 1 = .ok (.aload_n 1, 1) := by decide +kernel
theorem dX9_step_2 : decode cX9_step 2 = .ok (.getfield 7, 3) := by decide +kernel
theorem dX9_step_5 : decode cX9_step 5 = .ok (.iload_n 2, 1) := by decide +kernel
theorem dX9_step_6 : decode cX9_step 6 = .ok (.laload, 1) := by decide +kernel
theorem dX9_step_7 : decode cX9_step 7 = .ok (.invokevirtual 13, 3) := by decide +kernel
theorem dX9_step_10 : decode cX9_step 10 = .ok (.return_, 1) := by decide +kernel
theorem mw_X9_step : MW yX9_step (Cond.code yX9_step cX9_step 3 (Option.none : Option Jvm.ClassFile.FieldType)) cX9_step 3 (Option.none : Option Jvm.ClassFile.FieldType) 2 := ⟨rfl, ⟨(lw_all_tbl q2370), rfl, (lw_all_tbl q171)⟩, rfl, ⟨by decide, by decide⟩, by decide +kernel⟩
noncomputable def c_X9_step (l0 : Int) (l1 : Int) (l2 : Int) : Mo CH Int :=
  bnd (gf [103] 5 l1) fun v1 =>
  bnd (ald 1 v1 l2) fun v2 =>
  bnd (isk 103 l1) fun _ =>
  bnd (c_X3_enter l1 v2) fun _ =>
  pr 0
theorem sc_X9_step (g : gC) (d : Nat) (ts : TS) (l0 : Int) (l1 : Int) (l2 : Int) (hl2 : R32 l2) : SF g yX9_step (Cond.code yX9_step cX9_step 3 (Option.none : Option Jvm.ClassFile.FieldType)) (Option.none : Option Jvm.ClassFile.FieldType) (d + 5) [vA g l0, vA g l1, vI l2] (fun h => (h, ts)) (c_X9_step l0 l1 l2) := by
  refine SF.of (lv := [(0, vA g l0), (1, vA g l1), (2, vI l2)]) (by decide) (wt_A (wt_A (wt_I wt_0))) rfl (by simp only [la_A, la_I, la_J, la_0]) (fun Γ hg hnm o => ?_)
  subst hg
  have o : Ok Γ "LazyForge$Enter" cX9_step 3 (Option.none : Option Jvm.ClassFile.FieldType) (d + 5) := o
  unfold c_X9_step
  refine s_aload_n o dX9_step_0 rfl 1 rfl ?_
  refine s_aload_n o dX9_step_1 rfl 1 rfl ?_
  refine r_getf (vA (mg Γ)) rfl o cf_X3_cells (Or.inr (Or.inl ⟨_, q334⟩)) dX9_step_2 (fun v1 hv1 => ?_)
  refine s_iload_n o dX9_step_5 rfl 2 rfl ?_
  refine r_lald o hl2 dX9_step_6 (fun v2 hv2 => ?_)
  refine s_cvC (d := d + 4) (As := [vJ v2]) (st := []) (c := 3) o (sc_X3_enter (mg Γ) d ts l1 v2 hv2) mw_X3_enter rfl (Or.inl (lw_all_tbl q2371)) rfl (lw_all_tbl q2181) (lw_all_tbl q2180) wt_0 rfl dX9_step_7 rfl (rs := fun _ => []) (fun _ => rfl) (fun _ _ => ?_)
  exact s_vret o rfl dX9_step_10 (fun _ hh => hh)
theorem dX4_init_0 : decode cX4_init 0 = .ok (.aload_n 0, 1) := by decide +kernel
theorem dX4_init_1 : decode cX4_init 1 = .ok (.invokespecial 3, 3) := by decide +kernel
theorem dX4_init_4 : decode cX4_init 4 = .ok (.aload_n 0, 1) := by decide +kernel
theorem dX4_init_5 : decode cX4_init 5 = .ok (.iconst 1, 1) := by decide +kernel
theorem dX4_init_6 : decode cX4_init 6 = .ok (.putfield 9, 3) := by decide +kernel
theorem dX4_init_9 : decode cX4_init 9 = .ok (.aload_n 0, 1) := by decide +kernel
theorem dX4_init_10 : decode cX4_init 10 = .ok (.iconst 1, 1) := by decide +kernel
theorem dX4_init_11 : decode cX4_init 11 = .ok (.putfield 15, 3) := by decide +kernel
theorem dX4_init_14 : decode cX4_init 14 = .ok (.aload_n 0, 1) := by decide +kernel
theorem dX4_init_15 : decode cX4_init 15 = .ok (.iconst (-1), 1) := by decide +kernel
theorem dX4_init_16 : decode cX4_init 16 = .ok (.putfield 18, 3) := by decide +kernel
theorem dX4_init_19 : decode cX4_init 19 = .ok (.return_, 1) := by decide +kernel
theorem mw_X4_init : MW yX4_init (Cond.code yX4_init cX4_init 1 (Option.none : Option Jvm.ClassFile.FieldType)) cX4_init 1 (Option.none : Option Jvm.ClassFile.FieldType) 0 := ⟨rfl, ⟨(lw_all_tbl q253), rfl, (lw_all_tbl q166)⟩, rfl, ⟨by decide, by decide⟩, by decide +kernel⟩
noncomputable def c_X4_init (l0 : Int) : Mo CH Int :=
  bnd (pf [106, 107, 108, 109, 110, 118, 119, 120, 121, 122, 123, 124, 125, 126] 0 l0 1) fun _ =>
  bnd (pf [106, 107, 108, 109, 110, 118, 119, 120, 121, 122, 123, 124, 125, 126] 1 l0 1) fun _ =>
  bnd (pf [106, 107, 108, 109, 110, 118, 119, 120, 121, 122, 123, 124, 125, 126] 2 l0 (-1)) fun _ =>
  pr 0
theorem sc_X4_init (g : gC) (d : Nat) (ts : TS) (l0 : Int) (hl0 : 0 < l0) : SF g yX4_init (Cond.code yX4_init cX4_init 1 (Option.none : Option Jvm.ClassFile.FieldType)) (Option.none : Option Jvm.ClassFile.FieldType) (d + 1) [vA g l0] (fun h => (h, ts)) (c_X4_init l0) := by
  refine SF.of (lv := [(0, vA g l0)]) (by decide) (wt_A wt_0) rfl (by simp only [la_A, la_I, la_J, la_0]) (fun Γ hg hnm o => ?_)
  subst hg
  have o : Ok Γ "LazyForge$Part" cX4_init 1 (Option.none : Option Jvm.ClassFile.FieldType) (d + 1) := o
  have hnm : (xMe (mx Γ)).name = "<init>" := hnm
  unfold c_X4_init
  refine s_aload_n o dX4_init_0 rfl 0 rfl ?_
  refine s_obj (d := d + 0) o (lw_all_tbl q254) hl0 wt_0 rfl dX4_init_1 (lw_all_tbl q216) (lw_all_tbl q217) ?_
  refine s_aload_n o dX4_init_4 rfl 0 rfl ?_
  refine s_iconst o dX4_init_5 ?_
  refine r_putf vI rfl o cf_X4_parts (Or.inl (lw_all_tbl q255)) dX4_init_6 (Or.inl rfl) (r32 rfl) ty_int ?_
  refine s_aload_n o dX4_init_9 rfl 0 rfl ?_
  refine s_iconst o dX4_init_10 ?_
  refine r_putf vI rfl o cf_X4_high (Or.inl (lw_all_tbl q257)) dX4_init_11 (Or.inl rfl) (r32 rfl) ty_int ?_
  refine s_aload_n o dX4_init_14 rfl 0 rfl ?_
  refine s_iconst o dX4_init_15 ?_
  refine r_putf vI rfl o cf_X4_number (Or.inl (lw_all_tbl q260)) dX4_init_16 (Or.inl rfl) (r32 rfl) ty_int ?_
  exact s_vret o rfl dX4_init_19 (fun _ hh => hh)
theorem dX5_init_0 : decode cX5_init 0 = .ok (.aload_n 0, 1) := by decide +kernel
theorem dX5_init_1 : decode cX5_init 1 = .ok (.invokespecial 3, 3) := by decide +kernel
theorem dX5_init_4 : decode cX5_init 4 = .ok (.return_, 1) := by decide +kernel
theorem mw_X5_init : MW yX5_init (Cond.code yX5_init cX5_init 1 (Option.none : Option Jvm.ClassFile.FieldType)) cX5_init 1 (Option.none : Option Jvm.ClassFile.FieldType) 0 := ⟨rfl, ⟨(lw_all_tbl q250), rfl, (lw_all_tbl q167)⟩, rfl, ⟨by decide, by decide⟩, by decide +kernel⟩
noncomputable def c_X5_init (l0 : Int) : Mo CH Int :=
  bnd (c_X4_init l0) fun _ =>
  pr 0
theorem sc_X5_init (g : gC) (d : Nat) (ts : TS) (l0 : Int) (hl0 : 0 < l0) : SF g yX5_init (Cond.code yX5_init cX5_init 1 (Option.none : Option Jvm.ClassFile.FieldType)) (Option.none : Option Jvm.ClassFile.FieldType) (d + 2) [vA g l0] (fun h => (h, ts)) (c_X5_init l0) := by
  refine SF.of (lv := [(0, vA g l0)]) (by decide) (wt_A wt_0) rfl (by simp only [la_A, la_I, la_J, la_0]) (fun Γ hg hnm o => ?_)
  subst hg
  have o : Ok Γ "LazyForge$Task" cX5_init 1 (Option.none : Option Jvm.ClassFile.FieldType) (d + 2) := o
  have hnm : (xMe (mx Γ)).name = "<init>" := hnm
  unfold c_X5_init
  refine s_aload_n o dX5_init_0 rfl 0 rfl ?_
  refine s_ci (d := d + 1) (As := []) (st := []) o (sc_X4_init (mg Γ) d ts l0 hl0) mw_X4_init rfl (Or.inr ⟨_, q251⟩) (lw_all_tbl q252) rfl hl0 wt_0 rfl dX5_init_1 rfl (fun _ => ?_)
  exact s_vret o rfl dX5_init_4 (fun _ hh => hh)
theorem dX9_init_0 : decode cX9_init 0 = .ok (.aload_n 0, 1) := by decide +kernel
theorem dX9_init_1 : decode cX9_init 1 = .ok (.invokespecial 1, 3) := by decide +kernel
theorem dX9_init_4 : decode cX9_init 4 = .ok (.return_, 1) := by decide +kernel
theorem mw_X9_init : MW yX9_init (Cond.code yX9_init cX9_init 1 (Option.none : Option Jvm.ClassFile.FieldType)) cX9_init 1 (Option.none : Option Jvm.ClassFile.FieldType) 0 := ⟨rfl, ⟨(lw_all_tbl q306), rfl, (lw_all_tbl q171)⟩, rfl, ⟨by decide, by decide⟩, by decide +kernel⟩
noncomputable def c_X9_init (l0 : Int) : Mo CH Int :=
  bnd (c_X5_init l0) fun _ =>
  pr 0
theorem sc_X9_init (g : gC) (d : Nat) (ts : TS) (l0 : Int) (hl0 : 0 < l0) : SF g yX9_init (Cond.code yX9_init cX9_init 1 (Option.none : Option Jvm.ClassFile.FieldType)) (Option.none : Option Jvm.ClassFile.FieldType) (d + 3) [vA g l0] (fun h => (h, ts)) (c_X9_init l0) := by
  refine SF.of (lv := [(0, vA g l0)]) (by decide) (wt_A wt_0) rfl (by simp only [la_A, la_I, la_J, la_0]) (fun Γ hg hnm o => ?_)
  subst hg
  have o : Ok Γ "LazyForge$Enter" cX9_init 1 (Option.none : Option Jvm.ClassFile.FieldType) (d + 3) := o
  have hnm : (xMe (mx Γ)).name = "<init>" := hnm
  unfold c_X9_init
  refine s_aload_n o dX9_init_0 rfl 0 rfl ?_
  refine s_ci (d := d + 2) (As := []) (st := []) o (sc_X5_init (mg Γ) d ts l0 hl0) mw_X5_init rfl (Or.inr ⟨_, q307⟩) (lw_all_tbl q249) rfl hl0 wt_0 rfl dX9_init_1 rfl (fun _ => ?_)
  exact s_vret o rfl dX9_init_4 (fun _ hh => hh)
theorem dX3_apply_0 : decode cX3_apply 0 = .ok (.aload_n 0, 1) := by decide +kernel
theorem dX3_apply_1 : decode cX3_apply 1 = .ok (.aload_n 0, 1) := by decide +kernel
theorem dX3_apply_2 : decode cX3_apply 2 = .ok (.getfield 27, 3) := by decide +kernel
theorem dX3_apply_5 : decode cX3_apply 5 = .ok (.iload_n 1, 1) := by decide +kernel
theorem dX3_apply_6 : decode cX3_apply 6 = .ok (.invokevirtual 81, 3) := by decide +kernel
theorem dX3_apply_9 : decode cX3_apply 9 = .ok (.return_, 1) := by decide +kernel
theorem mw_X3_apply : MW yX3_apply (Cond.code yX3_apply cX3_apply 2 (Option.none : Option Jvm.ClassFile.FieldType)) cX3_apply 2 (Option.none : Option Jvm.ClassFile.FieldType) 1 := ⟨rfl, ⟨(lw_all_tbl q2235), rfl, (lw_all_tbl q165)⟩, rfl, ⟨by decide, by decide⟩, by decide +kernel⟩
noncomputable def c_X3_apply (l0 : Int) (l1 : Int) : Mo CH Int :=
  bnd (gf [103] 2 l0) fun v1 =>
  bnd (isk 103 l0) fun _ =>
  bnd (c_X3_again l0 v1 l1) fun _ =>
  pr 0
theorem sc_X3_apply (g : gC) (d : Nat) (ts : TS) (l0 : Int) (l1 : Int) (hl1 : R32 l1) : SF g yX3_apply (Cond.code yX3_apply cX3_apply 2 (Option.none : Option Jvm.ClassFile.FieldType)) (Option.none : Option Jvm.ClassFile.FieldType) (d + 2) [vA g l0, vI l1] (fun h => (h, ts)) (c_X3_apply l0 l1) := by
  refine SF.of (lv := [(0, vA g l0), (1, vI l1)]) (by decide) (wt_A (wt_I wt_0)) rfl (by simp only [la_A, la_I, la_J, la_0]) (fun Γ hg hnm o => ?_)
  subst hg
  have o : Ok Γ "LazyForge$Machine" cX3_apply 2 (Option.none : Option Jvm.ClassFile.FieldType) (d + 2) := o
  unfold c_X3_apply
  refine s_aload_n o dX3_apply_0 rfl 0 rfl ?_
  refine s_aload_n o dX3_apply_1 rfl 0 rfl ?_
  refine r_getf (vA (mg Γ)) rfl o cf_X3_applied (Or.inl (lw_all_tbl q330)) dX3_apply_2 (fun v1 hv1 => ?_)
  refine s_iload_n o dX3_apply_5 rfl 1 rfl ?_
  refine s_cvC (d := d + 1) (As := [vA (mg Γ) v1, vI l1]) (st := []) (c := 3) o (sc_X3_again (mg Γ) d ts l0 v1 l1 hl1) mw_X3_again rfl (Or.inl (lw_all_tbl q2174)) rfl (lw_all_tbl q2176) (lw_all_tbl q2175) wt_0 rfl dX3_apply_6 rfl (rs := fun _ => []) (fun _ => rfl) (fun _ _ => ?_)
  exact s_vret o rfl dX3_apply_9 (fun _ hh => hh)
theorem dX3_call_0 : decode cX3_call 0 = .ok (.aload_n 0, 1) := by decide +kernel
theorem dX3_call_1 : decode cX3_call 1 = .ok (.getfield 221, 3) := by decide +kernel
theorem dX3_call_4 : decode cX3_call 4 = .ok (.aload_n 0, 1) := by decide +kernel
theorem dX3_call_5 : decode cX3_call 5 = .ok (.getfield 224, 3) := by decide +kernel
theorem dX3_call_8 : decode cX3_call 8 = .ok (.if_icmp .ne 10, 3) := by decide +kernel
theorem dX3_call_11 : decode cX3_call 11 = .ok (.aload_n 0, 1) := by decide +kernel
theorem dX3_call_12 : decode cX3_call 12 = .ok (.iconst 3, 1) := by decide +kernel
theorem dX3_call_13 : decode cX3_call 13 = .ok (.iconst 1, 1) := by decide +kernel
theorem dX3_call_14 : decode cX3_call 14 = .ok (.invokevirtual 107, 3) := by decide +kernel
theorem dX3_call_17 : decode cX3_call 17 = .ok (.return_, 1) := by decide +kernel
theorem dX3_call_18 : decode cX3_call 18 = .ok (.aload_n 0, 1) := by decide +kernel
theorem dX3_call_19 : decode cX3_call 19 = .ok (.dup, 1) := by decide +kernel
theorem dX3_call_20 : decode cX3_call 20 = .ok (.getfield 221, 3) := by decide +kernel
theorem dX3_call_23 : decode cX3_call 23 = .ok (.iconst 1, 1) := by decide +kernel
theorem dX3_call_24 : decode cX3_call 24 = .ok (.iadd, 1) := by decide +kernel
theorem dX3_call_25 : decode cX3_call 25 = .ok (.putfield 221, 3) := by decide +kernel
theorem dX3_call_28 : decode cX3_call 28 = .ok (.aload_n 1, 1) := by decide +kernel
theorem dX3_call_29 : decode cX3_call 29 = .ok (.dup, 1) := by decide +kernel
theorem dX3_call_30 : decode cX3_call 30 = .ok (.getfield 227, 3) := by decide +kernel
theorem dX3_call_33 : decode cX3_call 33 = .ok (.iconst 1, 1) := by decide +kernel
theorem dX3_call_34 : decode cX3_call 34 = .ok (.iadd, 1) := by decide +kernel
theorem dX3_call_35 : decode cX3_call 35 = .ok (.putfield 227, 3) := by decide +kernel
theorem dX3_call_38 : decode cX3_call 38 = .ok (.iload_n 2, 1) := by decide +kernel
theorem dX3_call_39 : decode cX3_call 39 = .ok (.ifCond .ge 7, 3) := by decide +kernel
theorem dX3_call_42 : decode cX3_call 42 = .ok (.iconst 0, 1) := by decide +kernel
theorem dX3_call_43 : decode cX3_call 43 = .ok (.goto 12, 3) := by decide +kernel
theorem dX3_call_46 : decode cX3_call 46 = .ok (.aload_n 0, 1) := by decide +kernel
theorem dX3_call_47 : decode cX3_call 47 = .ok (.getfield 42, 3) := by decide +kernel
theorem dX3_call_50 : decode cX3_call 50 = .ok (.iload_n 2, 1) := by decide +kernel
theorem dX3_call_51 : decode cX3_call 51 = .ok (.iconst 1, 1) := by decide +kernel
theorem dX3_call_52 : decode cX3_call 52 = .ok (.iadd, 1) := by decide +kernel
theorem dX3_call_53 : decode cX3_call 53 = .ok (.laload, 1) := by decide +kernel
theorem dX3_call_54 : decode cX3_call 54 = .ok (.l2i, 1) := by decide +kernel
theorem dX3_call_55 : decode cX3_call 55 = .ok (.istore 4, 2) := by decide +kernel
theorem dX3_call_57 : decode cX3_call 57 = .ok (.aload_n 1, 1) := by decide +kernel
theorem dX3_call_58 : decode cX3_call 58 = .ok (.invokevirtual 228, 3) := by decide +kernel
theorem dX3_call_61 : decode cX3_call 61 = .ok (.istore 5, 2) := by decide +kernel
theorem dX3_call_63 : decode cX3_call 63 = .ok (.iload 5, 2) := by decide +kernel
theorem dX3_call_65 : decode cX3_call 65 = .ok (.iload 4, 2) := by decide +kernel
theorem dX3_call_67 : decode cX3_call 67 = .ok (.isub, 1) := by decide +kernel
theorem dX3_call_68 : decode cX3_call 68 = .ok (.istore 6, 2) := by decide +kernel
theorem dX3_call_70 : decode cX3_call 70 = .ok (.aload_n 0, 1) := by decide +kernel
theorem dX3_call_71 : decode cX3_call 71 = .ok (.getfield 85, 3) := by decide +kernel
theorem dX3_call_74 : decode cX3_call 74 = .ok (.iload_n 3, 1) := by decide +kernel
theorem dX3_call_75 : decode cX3_call 75 = .ok (.isub, 1) := by decide +kernel
theorem dX3_call_76 : decode cX3_call 76 = .ok (.istore 7, 2) := by decide +kernel
theorem dX3_call_78 : decode cX3_call 78 = .ok (.iload_n 3, 1) := by decide +kernel
theorem dX3_call_79 : decode cX3_call 79 = .ok (.iload 6, 2) := by decide +kernel
theorem dX3_call_81 : decode cX3_call 81 = .ok (.if_icmp .le 11, 3) := by decide +kernel
theorem dX3_call_84 : decode cX3_call 84 = .ok (.aload_n 0, 1) := by decide +kernel
theorem dX3_call_85 : decode cX3_call 85 = .ok (.iload_n 3, 1) := by decide +kernel
theorem dX3_call_86 : decode cX3_call 86 = .ok (.iload 6, 2) := by decide +kernel
theorem dX3_call_88 : decode cX3_call 88 = .ok (.isub, 1) := by decide +kernel
theorem dX3_call_89 : decode cX3_call 89 = .ok (.invokevirtual 231, 3) := by decide +kernel
theorem dX3_call_92 : decode cX3_call 92 = .ok (.aload_n 0, 1) := by decide +kernel
theorem dX3_call_93 : decode cX3_call 93 = .ok (.aload_n 1, 1) := by decide +kernel
theorem dX3_call_94 : decode cX3_call 94 = .ok (.invokevirtual 206, 3) := by decide +kernel
theorem dX3_call_97 : decode cX3_call 97 = .ok (.iconst 0, 1) := by decide +kernel
theorem dX3_call_98 : decode cX3_call 98 = .ok (.istore 8, 2) := by decide +kernel
theorem dX3_call_100 : decode cX3_call 100 = .ok (.iload 8, 2) := by decide +kernel
theorem dX3_call_102 : decode cX3_call 102 = .ok (.iload 4, 2) := by decide +kernel
theorem dX3_call_104 : decode cX3_call 104 = .ok (.if_icmp .ge 26, 3) := by decide +kernel
theorem dX3_call_107 : decode cX3_call 107 = .ok (.aload_n 0, 1) := by decide +kernel
theorem dX3_call_108 : decode cX3_call 108 = .ok (.iload 8, 2) := by decide +kernel
theorem dX3_call_110 : decode cX3_call 110 = .ok (.aload_n 0, 1) := by decide +kernel
theorem dX3_call_111 : decode cX3_call 111 = .ok (.getfield 42, 3) := by decide +kernel
theorem dX3_call_114 : decode cX3_call 114 = .ok (.iload_n 2, 1) := by decide +kernel
theorem dX3_call_115 : decode cX3_call 115 = .ok (.iconst 2, 1) := by decide +kernel
theorem dX3_call_116 : decode cX3_call 116 = .ok (.iadd, 1) := by decide +kernel
theorem dX3_call_117 : decode cX3_call 117 = .ok (.iload 8, 2) := by decide +kernel
theorem dX3_call_119 : decode cX3_call 119 = .ok (.iadd, 1) := by decide +kernel
theorem dX3_call_120 : decode cX3_call 120 = .ok (.laload, 1) := by decide +kernel
theorem dX3_call_121 : decode cX3_call 121 = .ok (.invokevirtual 210, 3) := by decide +kernel
theorem dX3_call_124 : decode cX3_call 124 = .ok (.iinc 8 1, 3) := by decide +kernel
theorem dX3_call_127 : decode cX3_call 127 = .ok (.goto (-27), 3) := by decide +kernel
theorem dX3_call_130 : decode cX3_call 130 = .ok (.iconst 0, 1) := by decide +kernel
theorem dX3_call_131 : decode cX3_call 131 = .ok (.istore 8, 2) := by decide +kernel
theorem dX3_call_133 : decode cX3_call 133 = .ok (.iload 8, 2) := by decide +kernel
theorem dX3_call_135 : decode cX3_call 135 = .ok (.iload 6, 2) := by decide +kernel
theorem dX3_call_137 : decode cX3_call 137 = .ok (.if_icmp .ge 28, 3) := by decide +kernel
theorem dX3_call_140 : decode cX3_call 140 = .ok (.aload_n 0, 1) := by decide +kernel
theorem dX3_call_141 : decode cX3_call 141 = .ok (.iload 4, 2) := by decide +kernel
theorem dX3_call_143 : decode cX3_call 143 = .ok (.iload 8, 2) := by decide +kernel
theorem dX3_call_145 : decode cX3_call 145 = .ok (.iadd, 1) := by decide +kernel
theorem dX3_call_146 : decode cX3_call 146 = .ok (.aload_n 0, 1) := by decide +kernel
theorem dX3_call_147 : decode cX3_call 147 = .ok (.getfield 56, 3) := by decide +kernel
theorem dX3_call_150 : decode cX3_call 150 = .ok (.iload 7, 2) := by decide +kernel
theorem dX3_call_152 : decode cX3_call 152 = .ok (.iload 8, 2) := by decide +kernel
theorem dX3_call_154 : decode cX3_call 154 = .ok (.iadd, 1) := by decide +kernel
theorem dX3_call_155 : decode cX3_call 155 = .ok (.laload, 1) := by decide +kernel
theorem dX3_call_156 : decode cX3_call 156 = .ok (.invokevirtual 210, 3) := by decide +kernel
theorem dX3_call_159 : decode cX3_call 159 = .ok (.iinc 8 1, 3) := by decide +kernel
theorem dX3_call_162 : decode cX3_call 162 = .ok (.goto (-29), 3) := by decide +kernel
theorem dX3_call_165 : decode cX3_call 165 = .ok (.aload_n 0, 1) := by decide +kernel
theorem dX3_call_166 : decode cX3_call 166 = .ok (.getfield 56, 3) := by decide +kernel
theorem dX3_call_169 : decode cX3_call 169 = .ok (.iload 7, 2) := by decide +kernel
theorem dX3_call_171 : decode cX3_call 171 = .ok (.iload 6, 2) := by decide +kernel
theorem dX3_call_173 : decode cX3_call 173 = .ok (.iadd, 1) := by decide +kernel
theorem dX3_call_174 : decode cX3_call 174 = .ok (.aload_n 0, 1) := by decide +kernel
theorem dX3_call_175 : decode cX3_call 175 = .ok (.getfield 56, 3) := by decide +kernel
theorem dX3_call_178 : decode cX3_call 178 = .ok (.iload 7, 2) := by decide +kernel
theorem dX3_call_180 : decode cX3_call 180 = .ok (.iload_n 3, 1) := by decide +kernel
theorem dX3_call_181 : decode cX3_call 181 = .ok (.iload 6, 2) := by decide +kernel
theorem dX3_call_183 : decode cX3_call 183 = .ok (.isub, 1) := by decide +kernel
theorem dX3_call_184 : decode cX3_call 184 = .ok (.invokestatic 75, 3) := by decide +kernel
theorem dX3_call_187 : decode cX3_call 187 = .ok (.aload_n 0, 1) := by decide +kernel
theorem dX3_call_188 : decode cX3_call 188 = .ok (.dup, 1) := by decide +kernel
theorem dX3_call_189 : decode cX3_call 189 = .ok (.getfield 85, 3) := by decide +kernel
theorem dX3_call_192 : decode cX3_call 192 = .ok (.iload 6, 2) := by decide +kernel
theorem dX3_call_194 : decode cX3_call 194 = .ok (.isub, 1) := by decide +kernel
theorem dX3_call_195 : decode cX3_call 195 = .ok (.putfield 85, 3) := by decide +kernel
theorem dX3_call_198 : decode cX3_call 198 = .ok (.aload_n 0, 1) := by decide +kernel
theorem dX3_call_199 : decode cX3_call 199 = .ok (.aload_n 1, 1) := by decide +kernel
theorem dX3_call_200 : decode cX3_call 200 = .ok (.getfield 234, 3) := by decide +kernel
theorem dX3_call_203 : decode cX3_call 203 = .ok (.invokevirtual 214, 3) := by decide +kernel
theorem dX3_call_206 : decode cX3_call 206 = .ok (.return_, 1) := by decide +kernel
theorem mw_X3_call : MW yX3_call (Cond.code yX3_call cX3_call 9 (Option.none : Option Jvm.ClassFile.FieldType)) cX3_call 9 (Option.none : Option Jvm.ClassFile.FieldType) 3 := ⟨rfl, ⟨(lw_all_tbl q2231), rfl, (lw_all_tbl q165)⟩, rfl, ⟨by decide, by decide⟩, by decide +kernel⟩
abbrev okc_X3_call_100 (x : Int × Int × Int × Int × Int × Int × Int × Int) : Prop := R32 x.2.2.1 ∧ R32 x.2.2.2.1 ∧ R32 x.2.2.2.2.1 ∧ R32 x.2.2.2.2.2.1 ∧ R32 x.2.2.2.2.2.2.1 ∧ R32 x.2.2.2.2.2.2.2
abbrev lvc_X3_call_100 (Γ : Gm) (x : Int × Int × Int × Int × Int × Int × Int × Int) : List (Nat × Value) := [(0, vA (mg Γ) x.1), (1, vA (mg Γ) x.2.1), (2, vI x.2.2.1), (3, vI x.2.2.2.1), (4, vI x.2.2.2.2.1), (6, vI x.2.2.2.2.2.1), (7, vI x.2.2.2.2.2.2.1), (8, vI x.2.2.2.2.2.2.2)]
noncomputable def c_X3_call_100b {A : Type} (k_130 : Int → Int → Int → Int → Int → Int → Mo CH A) (l0 : Int) (l1 : Int) (l2 : Int) (l3 : Int) (l4 : Int) (l6 : Int) (l7 : Int) (l8 : Int) : Mo CH ((Int × Int × Int × Int × Int × Int × Int × Int) ⊕ A) :=
  if l4 ≤ l8 then
    lo (k_130 l0 l1 l3 l4 l6 l7)
  else
    bnd (gf [103] 5 l0) fun v1 =>
    bnd (ald 1 v1 (w32 ((w32 (l2 + 2)) + l8))) fun v2 =>
    bnd (isk 103 l0) fun _ =>
    bnd (c_X3_set l0 l8 v2) fun _ =>
    pr (.inl (l0, l1, l2, l3, l4, l6, l7, (w32 (l8 + 1))))
theorem sc_X3_call_100b {Γ : Gm} {ts : TS} {d : Nat} (o : Ok Γ "LazyForge$Machine" cX3_call 9 (Option.none : Option Jvm.ClassFile.FieldType) (d + 4)) {A : Type} {K : A → CH → Prop} (k_130 : Int → Int → Int → Int → Int → Int → Mo CH A) (hk_130 : ∀ (l0 : Int) (l1 : Int) (l3 : Int) (l4 : Int) (l6 : Int) (l7 : Int), R32 l3 → R32 l4 → R32 l6 → R32 l7 → Sx Γ (fun h => (h, ts)) K 130 [(0, vA (mg Γ) l0), (1, vA (mg Γ) l1), (3, vI l3), (4, vI l4), (6, vI l6), (7, vI l7)] [] (k_130 l0 l1 l3 l4 l6 l7)) (l0 : Int) (l1 : Int) (l2 : Int) (l3 : Int) (l4 : Int) (l6 : Int) (l7 : Int) (l8 : Int) (hl2 : R32 l2) (hl3 : R32 l3) (hl4 : R32 l4) (hl6 : R32 l6) (hl7 : R32 l7) (hl8 : R32 l8) : Sx Γ (fun h => (h, ts)) (KL Γ (fun h => (h, ts)) okc_X3_call_100 K 100 (lvc_X3_call_100 Γ) []) 100 [(0, vA (mg Γ) l0), (1, vA (mg Γ) l1), (2, vI l2), (3, vI l3), (4, vI l4), (6, vI l6), (7, vI l7), (8, vI l8)] [] (c_X3_call_100b k_130 l0 l1 l2 l3 l4 l6 l7 l8) := by
  unfold c_X3_call_100b
  refine s_iload o dX3_call_100 7 rfl ?_
  refine s_iload o dX3_call_102 4 rfl ?_
  refine s_icmp_ge (tgt := 130) o dX3_call_104 (by decide) hl8 hl4 ?_ ?_
  · refine r_to [(0, vA (mg Γ) l0), (1, vA (mg Γ) l1), (3, vI l3), (4, vI l4), (6, vI l6), (7, vI l7)] [0, 1, 3, 4, 5, 6] rfl ?_
    exact s_lo (hk_130 l0 l1 l3 l4 l6 l7 hl3 hl4 hl6 hl7)
  · refine s_aload_n o dX3_call_107 rfl 0 rfl ?_
    refine s_iload o dX3_call_108 7 rfl ?_
    refine s_aload_n o dX3_call_110 rfl 0 rfl ?_
    refine r_getf (vA (mg Γ)) rfl o cf_X3_cells (Or.inl (lw_all_tbl q333)) dX3_call_111 (fun v1 hv1 => ?_)
    refine s_iload_n o dX3_call_114 rfl 2 rfl ?_
    refine s_iconst o dX3_call_115 ?_
    refine s_iadd o dX3_call_116 ?_
    refine s_iload o dX3_call_117 7 rfl ?_
    refine s_iadd o dX3_call_119 ?_
    refine r_lald o (w32_R _) dX3_call_120 (fun v2 hv2 => ?_)
    refine s_cvC (d := d + 3) (As := [vI l8, vJ v2]) (st := []) (c := 3) o (sc_X3_set (mg Γ) (d + 3) ts l0 l8 v2 hl8 hv2) mw_X3_set rfl (Or.inl (lw_all_tbl q2204)) rfl (lw_all_tbl q2206) (lw_all_tbl q2205) wt_0 rfl dX3_call_121 rfl (rs := fun _ => []) (fun _ => rfl) (fun _ _ => ?_)
    refine r_iinc (j := 7) o dX3_call_124 rfl rfl [(0, vA (mg Γ) l0), (1, vA (mg Γ) l1), (2, vI l2), (3, vI l3), (4, vI l4), (6, vI l6), (7, vI l7)] [0, 1, 2, 3, 4, 5, 6] rfl ⟨(Nat.ne_of_beq_eq_false rfl), (fun _ => (vA_cat (mg Γ) l0)), ⟨(Nat.ne_of_beq_eq_false rfl), (fun _ => (vA_cat (mg Γ) l1)), ⟨(Nat.ne_of_beq_eq_false rfl), (fun _ => rfl), ⟨(Nat.ne_of_beq_eq_false rfl), (fun _ => rfl), ⟨(Nat.ne_of_beq_eq_false rfl), (fun _ => rfl), ⟨(Nat.ne_of_beq_eq_false rfl), (fun _ => rfl), ⟨(Nat.ne_of_beq_eq_false rfl), (fun _ => rfl), trivial⟩⟩⟩⟩⟩⟩⟩ ?_
    refine s_goto (tgt := 100) o dX3_call_127 (by decide) ?_
    refine r_to [(0, vA (mg Γ) l0), (1, vA (mg Γ) l1), (2, vI l2), (3, vI l3), (4, vI l4), (6, vI l6), (7, vI l7), (8, vI (w32 (l8 + 1)))] [1, 2, 3, 4, 5, 6, 7, 0] rfl ?_
    exact s_back (⟨hl2, hl3, hl4, hl6, hl7, (w32_R _)⟩) rfl
noncomputable def c_X3_call_100 {A : Type} (k_130 : Int → Int → Int → Int → Int → Int → Mo CH A) (l0 : Int) (l1 : Int) (l2 : Int) (l3 : Int) (l4 : Int) (l6 : Int) (l7 : Int) (l8 : Int) : Mo CH A := Loop (fun x => c_X3_call_100b k_130 x.1 x.2.1 x.2.2.1 x.2.2.2.1 x.2.2.2.2.1 x.2.2.2.2.2.1 x.2.2.2.2.2.2.1 x.2.2.2.2.2.2.2) (l0, l1, l2, l3, l4, l6, l7, l8)
theorem sc_X3_call_100 {Γ : Gm} {ts : TS} {d : Nat} (o : Ok Γ "LazyForge$Machine" cX3_call 9 (Option.none : Option Jvm.ClassFile.FieldType) (d + 4)) {A : Type} {K : A → CH → Prop} (k_130 : Int → Int → Int → Int → Int → Int → Mo CH A) (hk_130 : ∀ (l0 : Int) (l1 : Int) (l3 : Int) (l4 : Int) (l6 : Int) (l7 : Int), R32 l3 → R32 l4 → R32 l6 → R32 l7 → Sx Γ (fun h => (h, ts)) K 130 [(0, vA (mg Γ) l0), (1, vA (mg Γ) l1), (3, vI l3), (4, vI l4), (6, vI l6), (7, vI l7)] [] (k_130 l0 l1 l3 l4 l6 l7)) (l0 : Int) (l1 : Int) (l2 : Int) (l3 : Int) (l4 : Int) (l6 : Int) (l7 : Int) (l8 : Int) (hl2 : R32 l2) (hl3 : R32 l3) (hl4 : R32 l4) (hl6 : R32 l6) (hl7 : R32 l7) (hl8 : R32 l8) : Sx Γ (fun h => (h, ts)) K 100 [(0, vA (mg Γ) l0), (1, vA (mg Γ) l1), (2, vI l2), (3, vI l3), (4, vI l4), (6, vI l6), (7, vI l7), (8, vI l8)] [] (c_X3_call_100 k_130 l0 l1 l2 l3 l4 l6 l7 l8) :=
  s_loop okc_X3_call_100 (lvc_X3_call_100 Γ) (fun x hx => sc_X3_call_100b o k_130 hk_130 x.1 x.2.1 x.2.2.1 x.2.2.2.1 x.2.2.2.2.1 x.2.2.2.2.2.1 x.2.2.2.2.2.2.1 x.2.2.2.2.2.2.2 hx.1 hx.2.1 hx.2.2.1 hx.2.2.2.1 hx.2.2.2.2.1 hx.2.2.2.2.2) (x := (l0, l1, l2, l3, l4, l6, l7, l8)) ⟨hl2, hl3, hl4, hl6, hl7, hl8⟩
abbrev okc_X3_call_133 (x : Int × Int × Int × Int × Int × Int × Int) : Prop := R32 x.2.2.1 ∧ R32 x.2.2.2.1 ∧ R32 x.2.2.2.2.1 ∧ R32 x.2.2.2.2.2.1 ∧ R32 x.2.2.2.2.2.2
abbrev lvc_X3_call_133 (Γ : Gm) (x : Int × Int × Int × Int × Int × Int × Int) : List (Nat × Value) := [(0, vA (mg Γ) x.1), (1, vA (mg Γ) x.2.1), (3, vI x.2.2.1), (4, vI x.2.2.2.1), (6, vI x.2.2.2.2.1), (7, vI x.2.2.2.2.2.1), (8, vI x.2.2.2.2.2.2)]
noncomputable def c_X3_call_133b {A : Type} (k_165 : Int → Int → Int → Int → Int → Mo CH A) (l0 : Int) (l1 : Int) (l3 : Int) (l4 : Int) (l6 : Int) (l7 : Int) (l8 : Int) : Mo CH ((Int × Int × Int × Int × Int × Int × Int) ⊕ A) :=
  if l6 ≤ l8 then
    lo (k_165 l0 l1 l3 l6 l7)
  else
    bnd (gf [103] 9 l0) fun v1 =>
    bnd (ald 1 v1 (w32 (l7 + l8))) fun v2 =>
    bnd (isk 103 l0) fun _ =>
    bnd (c_X3_set l0 (w32 (l4 + l8)) v2) fun _ =>
    pr (.inl (l0, l1, l3, l4, l6, l7, (w32 (l8 + 1))))
theorem sc_X3_call_133b {Γ : Gm} {ts : TS} {d : Nat} (o : Ok Γ "LazyForge$Machine" cX3_call 9 (Option.none : Option Jvm.ClassFile.FieldType) (d + 4)) {A : Type} {K : A → CH → Prop} (k_165 : Int → Int → Int → Int → Int → Mo CH A) (hk_165 : ∀ (l0 : Int) (l1 : Int) (l3 : Int) (l6 : Int) (l7 : Int), R32 l3 → R32 l6 → R32 l7 → Sx Γ (fun h => (h, ts)) K 165 [(0, vA (mg Γ) l0), (1, vA (mg Γ) l1), (3, vI l3), (6, vI l6), (7, vI l7)] [] (k_165 l0 l1 l3 l6 l7)) (l0 : Int) (l1 : Int) (l3 : Int) (l4 : Int) (l6 : Int) (l7 : Int) (l8 : Int) (hl3 : R32 l3) (hl4 : R32 l4) (hl6 : R32 l6) (hl7 : R32 l7) (hl8 : R32 l8) : Sx Γ (fun h => (h, ts)) (KL Γ (fun h => (h, ts)) okc_X3_call_133 K 133 (lvc_X3_call_133 Γ) []) 133 [(0, vA (mg Γ) l0), (1, vA (mg Γ) l1), (3, vI l3), (4, vI l4), (6, vI l6), (7, vI l7), (8, vI l8)] [] (c_X3_call_133b k_165 l0 l1 l3 l4 l6 l7 l8) := by
  unfold c_X3_call_133b
  refine s_iload o dX3_call_133 6 rfl ?_
  refine s_iload o dX3_call_135 4 rfl ?_
  refine s_icmp_ge (tgt := 165) o dX3_call_137 (by decide) hl8 hl6 ?_ ?_
  · refine r_to [(0, vA (mg Γ) l0), (1, vA (mg Γ) l1), (3, vI l3), (6, vI l6), (7, vI l7)] [0, 1, 2, 4, 5] rfl ?_
    exact s_lo (hk_165 l0 l1 l3 l6 l7 hl3 hl6 hl7)
  · refine s_aload_n o dX3_call_140 rfl 0 rfl ?_
    refine s_iload o dX3_call_141 3 rfl ?_
    refine s_iload o dX3_call_143 6 rfl ?_
    refine s_iadd o dX3_call_145 ?_
    refine s_aload_n o dX3_call_146 rfl 0 rfl ?_
    refine r_getf (vA (mg Γ)) rfl o cf_X3_values (Or.inl (lw_all_tbl q338)) dX3_call_147 (fun v1 hv1 => ?_)
    refine s_iload o dX3_call_150 5 rfl ?_
    refine s_iload o dX3_call_152 6 rfl ?_
    refine s_iadd o dX3_call_154 ?_
    refine r_lald o (w32_R _) dX3_call_155 (fun v2 hv2 => ?_)
    refine s_cvC (d := d + 3) (As := [vI (w32 (l4 + l8)), vJ v2]) (st := []) (c := 3) o (sc_X3_set (mg Γ) (d + 3) ts l0 (w32 (l4 + l8)) v2 (w32_R _) hv2) mw_X3_set rfl (Or.inl (lw_all_tbl q2204)) rfl (lw_all_tbl q2206) (lw_all_tbl q2205) wt_0 rfl dX3_call_156 rfl (rs := fun _ => []) (fun _ => rfl) (fun _ _ => ?_)
    refine r_iinc (j := 6) o dX3_call_159 rfl rfl [(0, vA (mg Γ) l0), (1, vA (mg Γ) l1), (3, vI l3), (4, vI l4), (6, vI l6), (7, vI l7)] [0, 1, 2, 3, 4, 5] rfl ⟨(Nat.ne_of_beq_eq_false rfl), (fun _ => (vA_cat (mg Γ) l0)), ⟨(Nat.ne_of_beq_eq_false rfl), (fun _ => (vA_cat (mg Γ) l1)), ⟨(Nat.ne_of_beq_eq_false rfl), (fun _ => rfl), ⟨(Nat.ne_of_beq_eq_false rfl), (fun _ => rfl), ⟨(Nat.ne_of_beq_eq_false rfl), (fun _ => rfl), ⟨(Nat.ne_of_beq_eq_false rfl), (fun _ => rfl), trivial⟩⟩⟩⟩⟩⟩ ?_
    refine s_goto (tgt := 133) o dX3_call_162 (by decide) ?_
    refine r_to [(0, vA (mg Γ) l0), (1, vA (mg Γ) l1), (3, vI l3), (4, vI l4), (6, vI l6), (7, vI l7), (8, vI (w32 (l8 + 1)))] [1, 2, 3, 4, 5, 6, 0] rfl ?_
    exact s_back (⟨hl3, hl4, hl6, hl7, (w32_R _)⟩) rfl
noncomputable def c_X3_call_133 {A : Type} (k_165 : Int → Int → Int → Int → Int → Mo CH A) (l0 : Int) (l1 : Int) (l3 : Int) (l4 : Int) (l6 : Int) (l7 : Int) (l8 : Int) : Mo CH A := Loop (fun x => c_X3_call_133b k_165 x.1 x.2.1 x.2.2.1 x.2.2.2.1 x.2.2.2.2.1 x.2.2.2.2.2.1 x.2.2.2.2.2.2) (l0, l1, l3, l4, l6, l7, l8)
theorem sc_X3_call_133 {Γ : Gm} {ts : TS} {d : Nat} (o : Ok Γ "LazyForge$Machine" cX3_call 9 (Option.none : Option Jvm.ClassFile.FieldType) (d + 4)) {A : Type} {K : A → CH → Prop} (k_165 : Int → Int → Int → Int → Int → Mo CH A) (hk_165 : ∀ (l0 : Int) (l1 : Int) (l3 : Int) (l6 : Int) (l7 : Int), R32 l3 → R32 l6 → R32 l7 → Sx Γ (fun h => (h, ts)) K 165 [(0, vA (mg Γ) l0), (1, vA (mg Γ) l1), (3, vI l3), (6, vI l6), (7, vI l7)] [] (k_165 l0 l1 l3 l6 l7)) (l0 : Int) (l1 : Int) (l3 : Int) (l4 : Int) (l6 : Int) (l7 : Int) (l8 : Int) (hl3 : R32 l3) (hl4 : R32 l4) (hl6 : R32 l6) (hl7 : R32 l7) (hl8 : R32 l8) : Sx Γ (fun h => (h, ts)) K 133 [(0, vA (mg Γ) l0), (1, vA (mg Γ) l1), (3, vI l3), (4, vI l4), (6, vI l6), (7, vI l7), (8, vI l8)] [] (c_X3_call_133 k_165 l0 l1 l3 l4 l6 l7 l8) :=
  s_loop okc_X3_call_133 (lvc_X3_call_133 Γ) (fun x hx => sc_X3_call_133b o k_165 hk_165 x.1 x.2.1 x.2.2.1 x.2.2.2.1 x.2.2.2.2.1 x.2.2.2.2.2.1 x.2.2.2.2.2.2 hx.1 hx.2.1 hx.2.2.1 hx.2.2.2.1 hx.2.2.2.2) (x := (l0, l1, l3, l4, l6, l7, l8)) ⟨hl3, hl4, hl6, hl7, hl8⟩
noncomputable def c_X3_call_92  (l0 : Int) (l1 : Int) (l2 : Int) (l3 : Int) (l4 : Int) (l6 : Int) (l7 : Int) : Mo CH Int :=
  bnd (isk 103 l0) fun _ =>
  bnd (c_X3_open l0 l1) fun _ =>
  c_X3_call_100
    (fun v1 v2 v3 v4 v5 v6 => c_X3_call_133
    (fun v7 v8 v9 v10 v11 => bnd (gf [103] 9 v7) fun v12 =>
  bnd (gf [103] 9 v7) fun v13 =>
  bnd (acp 1 v12 (w32 (v11 + v10)) v13 v11 (w32 (v9 - v10))) fun _ =>
  bnd (gf [103] 10 v7) fun v14 =>
  bnd (pf [103] 10 v7 (w32 (v14 - v10))) fun _ =>
  bnd (gf [116] 6 v8) fun v15 =>
  bnd (isk 103 v7) fun _ =>
  bnd (c_X3_work v7 v15) fun _ =>
  pr 0) v1 v2 v3 v4 v5 v6 0) l0 l1 l2 l3 l4 l6 l7 0
theorem sc_X3_call_92 {Γ : Gm} {ts : TS} {d : Nat} (o : Ok Γ "LazyForge$Machine" cX3_call 9 (Option.none : Option Jvm.ClassFile.FieldType) (d + 4))   (l0 : Int) (l1 : Int) (l2 : Int) (l3 : Int) (l4 : Int) (l6 : Int) (l7 : Int) (hl2 : R32 l2) (hl3 : R32 l3) (hl4 : R32 l4) (hl6 : R32 l6) (hl7 : R32 l7) : Sx Γ (fun h => (h, ts)) (fun a s => mt Γ = (0, a, ((s, ts) : Wd))) 92 [(0, vA (mg Γ) l0), (1, vA (mg Γ) l1), (2, vI l2), (3, vI l3), (4, vI l4), (6, vI l6), (7, vI l7)] [] (c_X3_call_92 l0 l1 l2 l3 l4 l6 l7) := by
  unfold c_X3_call_92
  refine s_aload_n o dX3_call_92 rfl 0 rfl ?_
  refine s_aload_n o dX3_call_93 rfl 1 rfl ?_
  refine s_cvC (d := d + 3) (As := [vA (mg Γ) l1]) (st := []) (c := 3) o (sc_X3_open (mg Γ) d ts l0 l1) mw_X3_open rfl (Or.inl (lw_all_tbl q2199)) rfl (lw_all_tbl qs51) (lw_all_tbl q2201) wt_0 rfl dX3_call_94 rfl (rs := fun _ => []) (fun _ => rfl) (fun _ _ => ?_)
  refine s_iconst o dX3_call_97 ?_
  refine r_istore o dX3_call_98 rfl ⟨(Nat.ne_of_beq_eq_false rfl), (fun _ => (vA_cat (mg Γ) l0)), ⟨(Nat.ne_of_beq_eq_false rfl), (fun _ => (vA_cat (mg Γ) l1)), ⟨(Nat.ne_of_beq_eq_false rfl), (fun _ => rfl), ⟨(Nat.ne_of_beq_eq_false rfl), (fun _ => rfl), ⟨(Nat.ne_of_beq_eq_false rfl), (fun _ => rfl), ⟨(Nat.ne_of_beq_eq_false rfl), (fun _ => rfl), ⟨(Nat.ne_of_beq_eq_false rfl), (fun _ => rfl), trivial⟩⟩⟩⟩⟩⟩⟩ ?_
  refine r_to [(0, vA (mg Γ) l0), (1, vA (mg Γ) l1), (2, vI l2), (3, vI l3), (4, vI l4), (6, vI l6), (7, vI l7), (8, vI 0)] [1, 2, 3, 4, 5, 6, 7, 0] rfl ?_
  refine sc_X3_call_100 o _ ?_ l0 l1 l2 l3 l4 l6 l7 0 hl2 hl3 hl4 hl6 hl7 (r32 rfl)
  · intro v1 v2 v3 v4 v5 v6 hv3 hv4 hv5 hv6
    refine s_iconst o dX3_call_130 ?_
    refine r_istore o dX3_call_131 rfl ⟨(Nat.ne_of_beq_eq_false rfl), (fun _ => (vA_cat (mg Γ) v1)), ⟨(Nat.ne_of_beq_eq_false rfl), (fun _ => (vA_cat (mg Γ) v2)), ⟨(Nat.ne_of_beq_eq_false rfl), (fun _ => rfl), ⟨(Nat.ne_of_beq_eq_false rfl), (fun _ => rfl), ⟨(Nat.ne_of_beq_eq_false rfl), (fun _ => rfl), ⟨(Nat.ne_of_beq_eq_false rfl), (fun _ => rfl), trivial⟩⟩⟩⟩⟩⟩ ?_
    refine r_to [(0, vA (mg Γ) v1), (1, vA (mg Γ) v2), (3, vI v3), (4, vI v4), (6, vI v5), (7, vI v6), (8, vI 0)] [1, 2, 3, 4, 5, 6, 0] rfl ?_
    refine sc_X3_call_133 o _ ?_ v1 v2 v3 v4 v5 v6 0 hv3 hv4 hv5 hv6 (r32 rfl)
    · intro v7 v8 v9 v10 v11 hv9 hv10 hv11
      refine s_aload_n o dX3_call_165 rfl 0 rfl ?_
      refine r_getf (vA (mg Γ)) rfl o cf_X3_values (Or.inl (lw_all_tbl q338)) dX3_call_166 (fun v12 hv12 => ?_)
      refine s_iload o dX3_call_169 4 rfl ?_
      refine s_iload o dX3_call_171 3 rfl ?_
      refine s_iadd o dX3_call_173 ?_
      refine s_aload_n o dX3_call_174 rfl 0 rfl ?_
      refine r_getf (vA (mg Γ)) rfl o cf_X3_values (Or.inl (lw_all_tbl q338)) dX3_call_175 (fun v13 hv13 => ?_)
      refine s_iload o dX3_call_178 4 rfl ?_
      refine s_iload_n o dX3_call_180 rfl 2 rfl ?_
      refine s_iload o dX3_call_181 3 rfl ?_
      refine s_isub o dX3_call_183 ?_
      refine s_acp (kd := 1) (d := d + 3) o (by decide) (fun q => absurd q (by decide)) (lw_all_tbl q2178) (w32_R _) hv11 (w32_R _) wt_0 rfl dX3_call_184 (lw_all_tbl q481) (lw_all_tbl q480) (lw_all_tbl q179) ?_
      refine s_aload_n o dX3_call_187 rfl 0 rfl ?_
      refine s_dup o dX3_call_188 (vA_cat (mg Γ) v7) ?_
      refine r_getf vI rfl o cf_X3_has (Or.inl (lw_all_tbl q339)) dX3_call_189 (fun v14 hv14 => ?_)
      refine s_iload o dX3_call_192 3 rfl ?_
      refine s_isub o dX3_call_194 ?_
      refine r_putf vI rfl o cf_X3_has (Or.inl (lw_all_tbl q339)) dX3_call_195 (Or.inl rfl) (w32_R _) ty_int ?_
      refine s_aload_n o dX3_call_198 rfl 0 rfl ?_
      refine s_aload_n o dX3_call_199 rfl 1 rfl ?_
      refine r_getf (vA (mg Γ)) rfl o cf_X16_body (Or.inr (Or.inl ⟨_, q1161⟩)) dX3_call_200 (fun v15 hv15 => ?_)
      refine s_cvC (d := d + 3) (As := [vA (mg Γ) v15]) (st := []) (c := 3) o (sc_X3_work (mg Γ) (d + 1) ts v7 v15) mw_X3_work rfl (Or.inl (lw_all_tbl q2208)) rfl (lw_all_tbl q2210) (lw_all_tbl q2209) wt_0 rfl dX3_call_203 rfl (rs := fun _ => []) (fun _ => rfl) (fun _ _ => ?_)
      exact s_vret o rfl dX3_call_206 (fun _ hh => hh)
noncomputable def c_X3_call_55  (l0 : Int) (l1 : Int) (l2 : Int) (l3 : Int) (k0 : Int) : Mo CH Int :=
  bnd (isk 116 l1) fun _ =>
  bnd (c_X16_parameters l1) fun v1 =>
  bnd (gf [103] 10 l0) fun v2 =>
  if l3 ≤ (w32 (v1 - k0)) then
    c_X3_call_92 l0 l1 l2 l3 k0 (w32 (v1 - k0)) (w32 (v2 - l3))
  else
    bnd (isk 103 l0) fun _ =>
    bnd (c_X3_apply l0 (w32 (l3 - (w32 (v1 - k0))))) fun _ =>
    c_X3_call_92 l0 l1 l2 l3 k0 (w32 (v1 - k0)) (w32 (v2 - l3))
theorem sc_X3_call_55 {Γ : Gm} {ts : TS} {d : Nat} (o : Ok Γ "LazyForge$Machine" cX3_call 9 (Option.none : Option Jvm.ClassFile.FieldType) (d + 4))   (l0 : Int) (l1 : Int) (l2 : Int) (l3 : Int) (k0 : Int) (hl2 : R32 l2) (hl3 : R32 l3) (hk0 : R32 k0) : Sx Γ (fun h => (h, ts)) (fun a s => mt Γ = (0, a, ((s, ts) : Wd))) 55 [(0, vA (mg Γ) l0), (1, vA (mg Γ) l1), (2, vI l2), (3, vI l3)] [vI k0] (c_X3_call_55 l0 l1 l2 l3 k0) := by
  unfold c_X3_call_55
  refine r_istore o dX3_call_55 rfl ⟨(Nat.ne_of_beq_eq_false rfl), (fun _ => (vA_cat (mg Γ) l0)), ⟨(Nat.ne_of_beq_eq_false rfl), (fun _ => (vA_cat (mg Γ) l1)), ⟨(Nat.ne_of_beq_eq_false rfl), (fun _ => rfl), ⟨(Nat.ne_of_beq_eq_false rfl), (fun _ => rfl), trivial⟩⟩⟩⟩ ?_
  refine s_aload_n o dX3_call_57 rfl 2 rfl ?_
  refine s_cvC (d := d + 3) (As := []) (st := []) (c := 16) o (sc_X16_parameters (mg Γ) (d + 2) ts l1) mw_X16_parameters rfl (Or.inl (lw_all_tbl q2158)) rfl (lw_all_tbl q1606) (lw_all_tbl q1605) wt_0 rfl dX3_call_58 rfl (rs := fun r => [vI r]) (fun _ => rfl) (fun v1 hv1 => ?_)
  refine r_istore o dX3_call_61 rfl ⟨(Nat.ne_of_beq_eq_false rfl), (fun _ => rfl), ⟨(Nat.ne_of_beq_eq_false rfl), (fun _ => (vA_cat (mg Γ) l0)), ⟨(Nat.ne_of_beq_eq_false rfl), (fun _ => (vA_cat (mg Γ) l1)), ⟨(Nat.ne_of_beq_eq_false rfl), (fun _ => rfl), ⟨(Nat.ne_of_beq_eq_false rfl), (fun _ => rfl), trivial⟩⟩⟩⟩⟩ ?_
  refine s_iload o dX3_call_63 0 rfl ?_
  refine s_iload o dX3_call_65 1 rfl ?_
  refine s_isub o dX3_call_67 ?_
  refine r_istore o dX3_call_68 rfl ⟨(Nat.ne_of_beq_eq_false rfl), (fun _ => rfl), ⟨(Nat.ne_of_beq_eq_false rfl), (fun _ => rfl), ⟨(Nat.ne_of_beq_eq_false rfl), (fun _ => (vA_cat (mg Γ) l0)), ⟨(Nat.ne_of_beq_eq_false rfl), (fun _ => (vA_cat (mg Γ) l1)), ⟨(Nat.ne_of_beq_eq_false rfl), (fun _ => rfl), ⟨(Nat.ne_of_beq_eq_false rfl), (fun _ => rfl), trivial⟩⟩⟩⟩⟩⟩ ?_
  refine s_aload_n o dX3_call_70 rfl 3 rfl ?_
  refine r_getf vI rfl o cf_X3_has (Or.inl (lw_all_tbl q339)) dX3_call_71 (fun v2 hv2 => ?_)
  refine s_iload_n o dX3_call_74 rfl 6 rfl ?_
  refine s_isub o dX3_call_75 ?_
  refine r_istore o dX3_call_76 rfl ⟨(Nat.ne_of_beq_eq_false rfl), (fun _ => rfl), ⟨(Nat.ne_of_beq_eq_false rfl), (fun _ => rfl), ⟨(Nat.ne_of_beq_eq_false rfl), (fun _ => rfl), ⟨(Nat.ne_of_beq_eq_false rfl), (fun _ => (vA_cat (mg Γ) l0)), ⟨(Nat.ne_of_beq_eq_false rfl), (fun _ => (vA_cat (mg Γ) l1)), ⟨(Nat.ne_of_beq_eq_false rfl), (fun _ => rfl), ⟨(Nat.ne_of_beq_eq_false rfl), (fun _ => rfl), trivial⟩⟩⟩⟩⟩⟩⟩ ?_
  refine s_iload_n o dX3_call_78 rfl 7 rfl ?_
  refine s_iload o dX3_call_79 1 rfl ?_
  refine s_icmp_le (tgt := 92) o dX3_call_81 (by decide) hl3 (w32_R _) ?_ ?_
  · refine r_to [(0, vA (mg Γ) l0), (1, vA (mg Γ) l1), (2, vI l2), (3, vI l3), (4, vI k0), (6, vI (w32 (v1 - k0))), (7, vI (w32 (v2 - l3)))] [4, 5, 6, 7, 3, 1, 0] rfl ?_
    exact sc_X3_call_92 o l0 l1 l2 l3 k0 (w32 (v1 - k0)) (w32 (v2 - l3)) hl2 hl3 hk0 (w32_R _) (w32_R _)
  · refine s_aload_n o dX3_call_84 rfl 4 rfl ?_
    refine s_iload_n o dX3_call_85 rfl 7 rfl ?_
    refine s_iload o dX3_call_86 1 rfl ?_
    refine s_isub o dX3_call_88 ?_
    refine s_cvC (d := d + 3) (As := [vI (w32 (l3 - (w32 (v1 - k0))))]) (st := []) (c := 3) o (sc_X3_apply (mg Γ) (d + 1) ts l0 (w32 (l3 - (w32 (v1 - k0)))) (w32_R _)) mw_X3_apply rfl (Or.inl (lw_all_tbl q2232)) rfl (lw_all_tbl q2234) (lw_all_tbl q2233) wt_0 rfl dX3_call_89 rfl (rs := fun _ => []) (fun _ => rfl) (fun _ _ => ?_)
    refine r_to [(0, vA (mg Γ) l0), (1, vA (mg Γ) l1), (2, vI l2), (3, vI l3), (4, vI k0), (6, vI (w32 (v1 - k0))), (7, vI (w32 (v2 - l3)))] [4, 5, 6, 7, 3, 1, 0] rfl ?_
    exact sc_X3_call_92 o l0 l1 l2 l3 k0 (w32 (v1 - k0)) (w32 (v2 - l3)) hl2 hl3 hk0 (w32_R _) (w32_R _)
noncomputable def c_X3_call (l0 : Int) (l1 : Int) (l2 : Int) (l3 : Int) : Mo CH Int :=
  bnd (gf [103] 24 l0) fun v1 =>
  bnd (gf [103] 18 l0) fun v2 =>
  if ¬ v1 = v2 then
    bnd (gf [103] 24 l0) fun v3 =>
    bnd (pf [103] 24 l0 (w32 (v3 + 1))) fun _ =>
    bnd (gf [116] 10 l1) fun v4 =>
    bnd (pf [116] 10 l1 (w32 (v4 + 1))) fun _ =>
    if 0 ≤ l2 then
      bnd (gf [103] 5 l0) fun v5 =>
      bnd (ald 1 v5 (w32 (l2 + 1))) fun v6 =>
      c_X3_call_55 l0 l1 l2 l3 (l2i v6)
    else
      c_X3_call_55 l0 l1 l2 l3 0
  else
    bnd (isk 103 l0) fun _ =>
    bnd (c_X3_end l0 3 1) fun _ =>
    pr 0
theorem sc_X3_call (g : gC) (d : Nat) (ts : TS) (l0 : Int) (l1 : Int) (l2 : Int) (l3 : Int) (hl2 : R32 l2) (hl3 : R32 l3) : SF g yX3_call (Cond.code yX3_call cX3_call 9 (Option.none : Option Jvm.ClassFile.FieldType)) (Option.none : Option Jvm.ClassFile.FieldType) (d + 4) [vA g l0, vA g l1, vI l2, vI l3] (fun h => (h, ts)) (c_X3_call l0 l1 l2 l3) := by
  refine SF.of (lv := [(0, vA g l0), (1, vA g l1), (2, vI l2), (3, vI l3)]) (by decide) (wt_A (wt_A (wt_I (wt_I wt_0)))) rfl (by simp only [la_A, la_I, la_J, la_0]) (fun Γ hg hnm o => ?_)
  subst hg
  have o : Ok Γ "LazyForge$Machine" cX3_call 9 (Option.none : Option Jvm.ClassFile.FieldType) (d + 4) := o
  unfold c_X3_call
  refine s_aload_n o dX3_call_0 rfl 0 rfl ?_
  refine r_getf vI rfl o cf_X3_calls (Or.inl (lw_all_tbl q360)) dX3_call_1 (fun v1 hv1 => ?_)
  refine s_aload_n o dX3_call_4 rfl 0 rfl ?_
  refine r_getf vI rfl o cf_X3_most (Or.inl (lw_all_tbl q349)) dX3_call_5 (fun v2 hv2 => ?_)
  refine s_icmp_ne (tgt := 18) o dX3_call_8 (by decide) hv1 hv2 ?_ ?_
  · refine s_aload_n o dX3_call_18 rfl 0 rfl ?_
    refine s_dup o dX3_call_19 (vA_cat (mg Γ) l0) ?_
    refine r_getf vI rfl o cf_X3_calls (Or.inl (lw_all_tbl q360)) dX3_call_20 (fun v3 hv3 => ?_)
    refine s_iconst o dX3_call_23 ?_
    refine s_iadd o dX3_call_24 ?_
    refine r_putf vI rfl o cf_X3_calls (Or.inl (lw_all_tbl q360)) dX3_call_25 (Or.inl rfl) (w32_R _) ty_int ?_
    refine s_aload_n o dX3_call_28 rfl 1 rfl ?_
    refine s_dup o dX3_call_29 (vA_cat (mg Γ) l1) ?_
    refine r_getf vI rfl o cf_X16_calls (Or.inr (Or.inl ⟨_, q1169⟩)) dX3_call_30 (fun v4 hv4 => ?_)
    refine s_iconst o dX3_call_33 ?_
    refine s_iadd o dX3_call_34 ?_
    refine r_putf vI rfl o cf_X16_calls (Or.inr (Or.inl ⟨_, q1169⟩)) dX3_call_35 (Or.inl rfl) (w32_R _) ty_int ?_
    refine s_iload_n o dX3_call_38 rfl 2 rfl ?_
    refine s_if_ge (tgt := 46) o dX3_call_39 (by decide) hl2 ?_ ?_
    · refine s_aload_n o dX3_call_46 rfl 0 rfl ?_
      refine r_getf (vA (mg Γ)) rfl o cf_X3_cells (Or.inl (lw_all_tbl q333)) dX3_call_47 (fun v5 hv5 => ?_)
      refine s_iload_n o dX3_call_50 rfl 2 rfl ?_
      refine s_iconst o dX3_call_51 ?_
      refine s_iadd o dX3_call_52 ?_
      refine r_lald o (w32_R _) dX3_call_53 (fun v6 hv6 => ?_)
      refine s_l2i o dX3_call_54 ?_
      exact sc_X3_call_55 o l0 l1 l2 l3 (l2i v6) hl2 hl3 (l2i_R _)
    · refine s_iconst o dX3_call_42 ?_
      refine s_goto (tgt := 55) o dX3_call_43 (by decide) ?_
      exact sc_X3_call_55 o l0 l1 l2 l3 0 hl2 hl3 (r32 rfl)
  · refine s_aload_n o dX3_call_11 rfl 0 rfl ?_
    refine s_iconst o dX3_call_12 ?_
    refine s_iconst o dX3_call_13 ?_
    refine s_cvC (d := d + 3) (As := [vI 3, vI 1]) (st := []) (c := 3) o (sc_X3_end (mg Γ) (d + 3) ts l0 3 1 (r32 rfl) (r32 rfl)) mw_X3_end rfl (Or.inl (lw_all_tbl q2167)) rfl (lw_all_tbl qs50) (lw_all_tbl q2169) wt_0 rfl dX3_call_14 rfl (rs := fun _ => []) (fun _ => rfl) (fun _ _ => ?_)
    exact s_vret o rfl dX3_call_17 (fun _ hh => hh)
theorem dX3_make_0 : decode cX3_make 0 = .ok (.aload_n 0, 1) := by decide +kernel
theorem dX3_make_1 : decode cX3_make 1 = .ok (.getfield 111, 3) := by decide +kernel
theorem dX3_make_4 : decode cX3_make 4 = .ok (.iload_n 1, 1) := by decide +kernel
theorem dX3_make_5 : decode cX3_make 5 = .ok (.iadd, 1) := by decide +kernel
theorem dX3_make_6 : decode cX3_make 6 = .ok (.sipush 4000, 3) := by decide +kernel
theorem dX3_make_9 : decode cX3_make 9 = .ok (.if_icmp .le 11, 3) := by decide +kernel
theorem dX3_make_12 : decode cX3_make 12 = .ok (.aload_n 0, 1) := by decide +kernel
theorem dX3_make_13 : decode cX3_make 13 = .ok (.iconst 3, 1) := by decide +kernel
theorem dX3_make_14 : decode cX3_make 14 = .ok (.iconst 2, 1) := by decide +kernel
theorem dX3_make_15 : decode cX3_make 15 = .ok (.invokevirtual 107, 3) := by decide +kernel
theorem dX3_make_18 : decode cX3_make 18 = .ok (.iconst (-1), 1) := by decide +kernel
theorem dX3_make_19 : decode cX3_make 19 = .ok (.ireturn, 1) := by decide +kernel
theorem dX3_make_20 : decode cX3_make 20 = .ok (.aload_n 0, 1) := by decide +kernel
theorem dX3_make_21 : decode cX3_make 21 = .ok (.dup, 1) := by decide +kernel
theorem dX3_make_22 : decode cX3_make 22 = .ok (.getfield 111, 3) := by decide +kernel
theorem dX3_make_25 : decode cX3_make 25 = .ok (.iload_n 1, 1) := by decide +kernel
theorem dX3_make_26 : decode cX3_make 26 = .ok (.iadd, 1) := by decide +kernel
theorem dX3_make_27 : decode cX3_make 27 = .ok (.putfield 111, 3) := by decide +kernel
theorem dX3_make_30 : decode cX3_make 30 = .ok (.aload_n 0, 1) := by decide +kernel
theorem dX3_make_31 : decode cX3_make 31 = .ok (.getfield 111, 3) := by decide +kernel
theorem dX3_make_34 : decode cX3_make 34 = .ok (.iload_n 1, 1) := by decide +kernel
theorem dX3_make_35 : decode cX3_make 35 = .ok (.isub, 1) := by decide +kernel
theorem dX3_make_36 : decode cX3_make 36 = .ok (.ireturn, 1) := by decide +kernel
theorem mw_X3_make : MW yX3_make (Cond.code yX3_make cX3_make 2 (Option.some Jvm.ClassFile.FieldType.int)) cX3_make 2 (Option.some Jvm.ClassFile.FieldType.int) 1 := ⟨rfl, ⟨(lw_all_tbl q2166), rfl, (lw_all_tbl q165)⟩, rfl, ⟨by decide, by decide⟩, by decide +kernel⟩
noncomputable def c_X3_make (l0 : Int) (l1 : Int) : Mo CH Int :=
  bnd (gf [103] 25 l0) fun v1 =>
  if (w32 (v1 + l1)) ≤ 4000 then
    bnd (gf [103] 25 l0) fun v2 =>
    bnd (pf [103] 25 l0 (w32 (v2 + l1))) fun _ =>
    bnd (gf [103] 25 l0) fun v3 =>
    pr (w32 (v3 - l1))
  else
    bnd (isk 103 l0) fun _ =>
    bnd (c_X3_end l0 3 2) fun _ =>
    pr (-1)
theorem sc_X3_make (g : gC) (d : Nat) (ts : TS) (l0 : Int) (l1 : Int) (hl1 : R32 l1) : SF g yX3_make (Cond.code yX3_make cX3_make 2 (Option.some Jvm.ClassFile.FieldType.int)) (Option.some Jvm.ClassFile.FieldType.int) (d + 1) [vA g l0, vI l1] (fun h => (h, ts)) (c_X3_make l0 l1) := by
  refine SF.of (lv := [(0, vA g l0), (1, vI l1)]) (by decide) (wt_A (wt_I wt_0)) rfl (by simp only [la_A, la_I, la_J, la_0]) (fun Γ hg hnm o => ?_)
  subst hg
  have o : Ok Γ "LazyForge$Machine" cX3_make 2 (Option.some Jvm.ClassFile.FieldType.int) (d + 1) := o
  unfold c_X3_make
  refine s_aload_n o dX3_make_0 rfl 0 rfl ?_
  refine r_getf vI rfl o cf_X3_used (Or.inl (lw_all_tbl q361)) dX3_make_1 (fun v1 hv1 => ?_)
  refine s_iload_n o dX3_make_4 rfl 1 rfl ?_
  refine s_iadd o dX3_make_5 ?_
  refine s_sipush o dX3_make_6 rfl ?_
  refine s_icmp_le (tgt := 20) o dX3_make_9 (by decide) (w32_R _) (r32 rfl) ?_ ?_
  · refine s_aload_n o dX3_make_20 rfl 0 rfl ?_
    refine s_dup o dX3_make_21 (vA_cat (mg Γ) l0) ?_
    refine r_getf vI rfl o cf_X3_used (Or.inl (lw_all_tbl q361)) dX3_make_22 (fun v2 hv2 => ?_)
    refine s_iload_n o dX3_make_25 rfl 1 rfl ?_
    refine s_iadd o dX3_make_26 ?_
    refine r_putf vI rfl o cf_X3_used (Or.inl (lw_all_tbl q361)) dX3_make_27 (Or.inl rfl) (w32_R _) ty_int ?_
    refine s_aload_n o dX3_make_30 rfl 0 rfl ?_
    refine r_getf vI rfl o cf_X3_used (Or.inl (lw_all_tbl q361)) dX3_make_31 (fun v3 hv3 => ?_)
    refine s_iload_n o dX3_make_34 rfl 1 rfl ?_
    refine s_isub o dX3_make_35 ?_
    exact s_iret o rfl i_int (w32_R _) dX3_make_36 (fun _ hh => hh)
  · refine s_aload_n o dX3_make_12 rfl 0 rfl ?_
    refine s_iconst o dX3_make_13 ?_
    refine s_iconst o dX3_make_14 ?_
    refine s_cvC (d := d + 0) (As := [vI 3, vI 2]) (st := []) (c := 3) o (sc_X3_end (mg Γ) d ts l0 3 2 (r32 rfl) (r32 rfl)) mw_X3_end rfl (Or.inl (lw_all_tbl q2167)) rfl (lw_all_tbl qs50) (lw_all_tbl q2169) wt_0 rfl dX3_make_15 rfl (rs := fun _ => []) (fun _ => rfl) (fun _ _ => ?_)
    refine s_iconst o dX3_make_18 ?_
    exact s_iret o rfl i_int (r32 rfl) dX3_make_19 (fun _ hh => hh)
theorem dX3_partOfCall_0 : decode cX3_partOfCall 0 = .ok (.aload_n 0, 1) := by decide +kernel
theorem dX3_partOfCall_1 : decode cX3_partOfCall 1 = .ok (.iconst 2, 1) := by decide +kernel
theorem dX3_partOfCall_2 : decode cX3_partOfCall 2 = .ok (.iload_n 2, 1) := by decide +kernel
theorem dX3_partOfCall_3 : decode cX3_partOfCall 3 = .ok (.iadd, 1) := by decide +kernel
theorem dX3_partOfCall_4 : decode cX3_partOfCall 4 = .ok (.invokevirtual 114, 3) := by decide +kernel
theorem dX3_partOfCall_7 : decode cX3_partOfCall 7 = .ok (.istore_n 3, 1) := by decide +kernel
theorem dX3_partOfCall_8 : decode cX3_partOfCall 8 = .ok (.iload_n 3, 1) := by decide +kernel
theorem dX3_partOfCall_9 : decode cX3_partOfCall 9 = .ok (.ifCond .ge 7, 3) := by decide +kernel
theorem dX3_partOfCall_12 : decode cX3_partOfCall 12 = .ok (.ldc2_w 118, 3) := by decide +kernel
theorem dX3_partOfCall_15 : decode cX3_partOfCall 15 = .ok (.lreturn, 1) := by decide +kernel
theorem dX3_partOfCall_16 : decode cX3_partOfCall 16 = .ok (.aload_n 0, 1) := by decide +kernel
theorem dX3_partOfCall_17 : decode cX3_partOfCall 17 = .ok (.dup, 1) := by decide +kernel
theorem dX3_partOfCall_18 : decode cX3_partOfCall 18 = .ok (.getfield 125, 3) := by decide +kernel
theorem dX3_partOfCall_21 : decode cX3_partOfCall 21 = .ok (.iconst 1, 1) := by decide +kernel
theorem dX3_partOfCall_22 : decode cX3_partOfCall 22 = .ok (.iadd, 1) := by decide +kernel
theorem dX3_partOfCall_23 : decode cX3_partOfCall 23 = .ok (.putfield 125, 3) := by decide +kernel
theorem dX3_partOfCall_26 : decode cX3_partOfCall 26 = .ok (.aload_n 0, 1) := by decide +kernel
theorem dX3_partOfCall_27 : decode cX3_partOfCall 27 = .ok (.getfield 42, 3) := by decide +kernel
theorem dX3_partOfCall_30 : decode cX3_partOfCall 30 = .ok (.iload_n 3, 1) := by decide +kernel
theorem dX3_partOfCall_31 : decode cX3_partOfCall 31 = .ok (.aload_n 1, 1) := by decide +kernel
theorem dX3_partOfCall_32 : decode cX3_partOfCall 32 = .ok (.getfield 128, 3) := by decide +kernel
theorem dX3_partOfCall_35 : decode cX3_partOfCall 35 = .ok (.i2l, 1) := by decide +kernel
theorem dX3_partOfCall_36 : decode cX3_partOfCall 36 = .ok (.lastore, 1) := by decide +kernel
theorem dX3_partOfCall_37 : decode cX3_partOfCall 37 = .ok (.aload_n 0, 1) := by decide +kernel
theorem dX3_partOfCall_38 : decode cX3_partOfCall 38 = .ok (.getfield 42, 3) := by decide +kernel
theorem dX3_partOfCall_41 : decode cX3_partOfCall 41 = .ok (.iload_n 3, 1) := by decide +kernel
theorem dX3_partOfCall_42 : decode cX3_partOfCall 42 = .ok (.iconst 1, 1) := by decide +kernel
theorem dX3_partOfCall_43 : decode cX3_partOfCall 43 = .ok (.iadd, 1) := by decide +kernel
theorem dX3_partOfCall_44 : decode cX3_partOfCall 44 = .ok (.iload_n 2, 1) := by decide +kernel
theorem dX3_partOfCall_45 : decode cX3_partOfCall 45 = .ok (.i2l, 1) := by decide +kernel
theorem dX3_partOfCall_46 : decode cX3_partOfCall 46 = .ok (.lastore, 1) := by decide +kernel
theorem dX3_partOfCall_47 : decode cX3_partOfCall 47 = .ok (.ldc2_w 133, 3) := by decide +kernel
theorem dX3_partOfCall_50 : decode cX3_partOfCall 50 = .ok (.iload_n 3, 1) := by decide +kernel
theorem dX3_partOfCall_51 : decode cX3_partOfCall 51 = .ok (.i2l, 1) := by decide +kernel
theorem dX3_partOfCall_52 : decode cX3_partOfCall 52 = .ok (.lor, 1) := by decide +kernel
theorem dX3_partOfCall_53 : decode cX3_partOfCall 53 = .ok (.lreturn, 1) := by decide +kernel
theorem mw_X3_partOfCall : MW yX3_partOfCall (Cond.code yX3_partOfCall cX3_partOfCall 4 (Option.some Jvm.ClassFile.FieldType.long)) cX3_partOfCall 4 (Option.some Jvm.ClassFile.FieldType.long) 2 := ⟨rfl, ⟨(lw_all_tbl q2239), rfl, (lw_all_tbl q165)⟩, rfl, ⟨by decide, by decide⟩, by decide +kernel⟩
noncomputable def c_X3_partOfCall (l0 : Int) (l1 : Int) (l2 : Int) : Mo CH Int :=
  bnd (isk 103 l0) fun _ =>
  bnd (c_X3_make l0 (w32 (2 + l2))) fun v1 =>
  if 0 ≤ v1 then
    bnd (gf [103] 27 l0) fun v2 =>
    bnd (pf [103] 27 l0 (w32 (v2 + 1))) fun _ =>
    bnd (gf [103] 5 l0) fun v3 =>
    bnd (gf [116] 0 l1) fun v4 =>
    bnd (ast 1 v3 v1 v4) fun _ =>
    bnd (gf [103] 5 l0) fun v5 =>
    bnd (ast 1 v5 (w32 (v1 + 1)) l2) fun _ =>
    pr (lor 17179869184 v1)
  else
    pr (-1)
theorem sc_X3_partOfCall (g : gC) (d : Nat) (ts : TS) (l0 : Int) (l1 : Int) (l2 : Int) (hl2 : R32 l2) : SF g yX3_partOfCall (Cond.code yX3_partOfCall cX3_partOfCall 4 (Option.some Jvm.ClassFile.FieldType.long)) (Option.some Jvm.ClassFile.FieldType.long) (d + 2) [vA g l0, vA g l1, vI l2] (fun h => (h, ts)) (c_X3_partOfCall l0 l1 l2) := by
  refine SF.of (lv := [(0, vA g l0), (1, vA g l1), (2, vI l2)]) (by decide) (wt_A (wt_A (wt_I wt_0))) rfl (by simp only [la_A, la_I, la_J, la_0]) (fun Γ hg hnm o => ?_)
  subst hg
  have o : Ok Γ "LazyForge$Machine" cX3_partOfCall 4 (Option.some Jvm.ClassFile.FieldType.long) (d + 2) := o
  unfold c_X3_partOfCall
  refine s_aload_n o dX3_partOfCall_0 rfl 0 rfl ?_
  refine s_iconst o dX3_partOfCall_1 ?_
  refine s_iload_n o dX3_partOfCall_2 rfl 2 rfl ?_
  refine s_iadd o dX3_partOfCall_3 ?_
  refine s_cvC (d := d + 1) (As := [vI (w32 (2 + l2))]) (st := []) (c := 3) o (sc_X3_make (mg Γ) d ts l0 (w32 (2 + l2)) (w32_R _)) mw_X3_make rfl (Or.inl (lw_all_tbl q2163)) rfl (lw_all_tbl qs49) (lw_all_tbl q2165) wt_0 rfl dX3_partOfCall_4 rfl (rs := fun r => [vI r]) (fun _ => rfl) (fun v1 hv1 => ?_)
  refine r_istore_n o dX3_partOfCall_7 rfl rfl ⟨(Nat.ne_of_beq_eq_false rfl), (fun _ => (vA_cat (mg Γ) l0)), ⟨(Nat.ne_of_beq_eq_false rfl), (fun _ => (vA_cat (mg Γ) l1)), ⟨(Nat.ne_of_beq_eq_false rfl), (fun _ => rfl), trivial⟩⟩⟩ ?_
  refine s_iload_n o dX3_partOfCall_8 rfl 0 rfl ?_
  refine s_if_ge (tgt := 16) o dX3_partOfCall_9 (by decide) (hv1 _ rfl) ?_ ?_
  · refine s_aload_n o dX3_partOfCall_16 rfl 1 rfl ?_
    refine s_dup o dX3_partOfCall_17 (vA_cat (mg Γ) l0) ?_
    refine r_getf vI rfl o cf_X3_partsOfCalls (Or.inl (lw_all_tbl q365)) dX3_partOfCall_18 (fun v2 hv2 => ?_)
    refine s_iconst o dX3_partOfCall_21 ?_
    refine s_iadd o dX3_partOfCall_22 ?_
    refine r_putf vI rfl o cf_X3_partsOfCalls (Or.inl (lw_all_tbl q365)) dX3_partOfCall_23 (Or.inl rfl) (w32_R _) ty_int ?_
    refine s_aload_n o dX3_partOfCall_26 rfl 1 rfl ?_
    refine r_getf (vA (mg Γ)) rfl o cf_X3_cells (Or.inl (lw_all_tbl q333)) dX3_partOfCall_27 (fun v3 hv3 => ?_)
    refine s_iload_n o dX3_partOfCall_30 rfl 0 rfl ?_
    refine s_aload_n o dX3_partOfCall_31 rfl 2 rfl ?_
    refine r_getf vI rfl o cf_X16_number (Or.inr (Or.inl ⟨_, q1147⟩)) dX3_partOfCall_32 (fun v4 hv4 => ?_)
    refine s_i2l o dX3_partOfCall_35 hv4 ?_
    refine r_last o (hv1 _ rfl) (rL hv4) dX3_partOfCall_36 ?_
    refine s_aload_n o dX3_partOfCall_37 rfl 1 rfl ?_
    refine r_getf (vA (mg Γ)) rfl o cf_X3_cells (Or.inl (lw_all_tbl q333)) dX3_partOfCall_38 (fun v5 hv5 => ?_)
    refine s_iload_n o dX3_partOfCall_41 rfl 0 rfl ?_
    refine s_iconst o dX3_partOfCall_42 ?_
    refine s_iadd o dX3_partOfCall_43 ?_
    refine s_iload_n o dX3_partOfCall_44 rfl 3 rfl ?_
    refine s_i2l o dX3_partOfCall_45 hl2 ?_
    refine r_last o (w32_R _) (rL hl2) dX3_partOfCall_46 ?_
    refine s_ldc2 (n := 17179869184) o dX3_partOfCall_47 (lw_all_tbl q2227) rfl ?_
    refine s_iload_n o dX3_partOfCall_50 rfl 0 rfl ?_
    refine s_i2l o dX3_partOfCall_51 (hv1 _ rfl) ?_
    refine s_lor o dX3_partOfCall_52 ?_
    exact s_lret o rfl (lor_R _ _) dX3_partOfCall_53 (fun _ hh => hh)
  · refine s_ldc2 (n := -1) o dX3_partOfCall_12 (lw_all_tbl q2171) rfl ?_
    exact s_lret o rfl (r64 rfl) dX3_partOfCall_15 (fun _ hh => hh)
theorem dX3_taken_0 : decode cX3_taken 0 = .ok (.aload_n 0, 1) := by decide +kernel
theorem dX3_taken_1 : decode cX3_taken 1 = .ok (.dup, 1) := by decide +kernel
theorem dX3_taken_2 : decode cX3_taken 2 = .ok (.getfield 85, 3) := by decide +kernel
theorem dX3_taken_5 : decode cX3_taken 5 = .ok (.iconst 1, 1) := by decide +kernel
theorem dX3_taken_6 : decode cX3_taken 6 = .ok (.isub, 1) := by decide +kernel
theorem dX3_taken_7 : decode cX3_taken 7 = .ok (.putfield 85, 3) := by decide +kernel
theorem dX3_taken_10 : decode cX3_taken 10 = .ok (.aload_n 0, 1) := by decide +kernel
theorem dX3_taken_11 : decode cX3_taken 11 = .ok (.getfield 56, 3) := by decide +kernel
theorem dX3_taken_14 : decode cX3_taken 14 = .ok (.aload_n 0, 1) := by decide +kernel
theorem dX3_taken_15 : decode cX3_taken 15 = .ok (.getfield 85, 3) := by decide +kernel
theorem dX3_taken_18 : decode cX3_taken 18 = .ok (.laload, 1) := by decide +kernel
theorem dX3_taken_19 : decode cX3_taken 19 = .ok (.lreturn, 1) := by decide +kernel
theorem mw_X3_taken : MW yX3_taken (Cond.code yX3_taken cX3_taken 1 (Option.some Jvm.ClassFile.FieldType.long)) cX3_taken 1 (Option.some Jvm.ClassFile.FieldType.long) 0 := ⟨rfl, ⟨(lw_all_tbl q2225), rfl, (lw_all_tbl q165)⟩, rfl, ⟨by decide, by decide⟩, by decide +kernel⟩
noncomputable def c_X3_taken (l0 : Int) : Mo CH Int :=
  bnd (gf [103] 10 l0) fun v1 =>
  bnd (pf [103] 10 l0 (w32 (v1 - 1))) fun _ =>
  bnd (gf [103] 9 l0) fun v2 =>
  bnd (gf [103] 10 l0) fun v3 =>
  bnd (ald 1 v2 v3) fun v4 =>
  pr v4
theorem sc_X3_taken (g : gC) (d : Nat) (ts : TS) (l0 : Int) : SF g yX3_taken (Cond.code yX3_taken cX3_taken 1 (Option.some Jvm.ClassFile.FieldType.long)) (Option.some Jvm.ClassFile.FieldType.long) (d + 0) [vA g l0] (fun h => (h, ts)) (c_X3_taken l0) := by
  refine SF.of (lv := [(0, vA g l0)]) (by decide) (wt_A wt_0) rfl (by simp only [la_A, la_I, la_J, la_0]) (fun Γ hg hnm o => ?_)
  subst hg
  have o : Ok Γ "LazyForge$Machine" cX3_taken 1 (Option.some Jvm.ClassFile.FieldType.long) (d + 0) := o
  unfold c_X3_taken
  refine s_aload_n o dX3_taken_0 rfl 0 rfl ?_
  refine s_dup o dX3_taken_1 (vA_cat (mg Γ) l0) ?_
  refine r_getf vI rfl o cf_X3_has (Or.inl (lw_all_tbl q339)) dX3_taken_2 (fun v1 hv1 => ?_)
  refine s_iconst o dX3_taken_5 ?_
  refine s_isub o dX3_taken_6 ?_
  refine r_putf vI rfl o cf_X3_has (Or.inl (lw_all_tbl q339)) dX3_taken_7 (Or.inl rfl) (w32_R _) ty_int ?_
  refine s_aload_n o dX3_taken_10 rfl 0 rfl ?_
  refine r_getf (vA (mg Γ)) rfl o cf_X3_values (Or.inl (lw_all_tbl q338)) dX3_taken_11 (fun v2 hv2 => ?_)
  refine s_aload_n o dX3_taken_14 rfl 0 rfl ?_
  refine r_getf vI rfl o cf_X3_has (Or.inl (lw_all_tbl q339)) dX3_taken_15 (fun v3 hv3 => ?_)
  refine r_lald o hv3 dX3_taken_18 (fun v4 hv4 => ?_)
  exact s_lret o rfl hv4 dX3_taken_19 (fun _ hh => hh)
theorem dX3_applyValue_0 : decode cX3_applyValue 0 = .ok (.aload_n 0, 1) := by decide +kernel
theorem dX3_applyValue_1 : decode cX3_applyValue 1 = .ok (.invokevirtual 237, 3) := by decide +kernel
theorem dX3_applyValue_4 : decode cX3_applyValue 4 = .ok (.lstore_n 2, 1) := by decide +kernel
theorem dX3_applyValue_5 : decode cX3_applyValue 5 = .ok (.lload_n 2, 1) := by decide +kernel
theorem dX3_applyValue_6 : decode cX3_applyValue 6 = .ok (.ldc2_w 241, 3) := by decide +kernel
theorem dX3_applyValue_9 : decode cX3_applyValue 9 = .ok (.invokestatic 176, 3) := by decide +kernel
theorem dX3_applyValue_12 : decode cX3_applyValue 12 = .ok (.ifCond .ne 19, 3) := by decide +kernel
theorem dX3_applyValue_15 : decode cX3_applyValue 15 = .ok (.lload_n 2, 1) := by decide +kernel
theorem dX3_applyValue_16 : decode cX3_applyValue 16 = .ok (.ldc2_w 133, 3) := by decide +kernel
theorem dX3_applyValue_19 : decode cX3_applyValue 19 = .ok (.invokestatic 176, 3) := by decide +kernel
theorem dX3_applyValue_22 : decode cX3_applyValue 22 = .ok (.ifCond .ne 9, 3) := by decide +kernel
theorem dX3_applyValue_25 : decode cX3_applyValue 25 = .ok (.aload_n 0, 1) := by decide +kernel
theorem dX3_applyValue_26 : decode cX3_applyValue 26 = .ok (.iconst 4, 1) := by decide +kernel
theorem dX3_applyValue_27 : decode cX3_applyValue 27 = .ok (.invokevirtual 182, 3) := by decide +kernel
theorem dX3_applyValue_30 : decode cX3_applyValue 30 = .ok (.return_, 1) := by decide +kernel
theorem dX3_applyValue_31 : decode cX3_applyValue 31 = .ok (.lload_n 2, 1) := by decide +kernel
theorem dX3_applyValue_32 : decode cX3_applyValue 32 = .ok (.ldc2_w 133, 3) := by decide +kernel
theorem dX3_applyValue_35 : decode cX3_applyValue 35 = .ok (.invokestatic 176, 3) := by decide +kernel
theorem dX3_applyValue_38 : decode cX3_applyValue 38 = .ok (.ifCond .eq 8, 3) := by decide +kernel
theorem dX3_applyValue_41 : decode cX3_applyValue 41 = .ok (.lload_n 2, 1) := by decide +kernel
theorem dX3_applyValue_42 : decode cX3_applyValue 42 = .ok (.l2i, 1) := by decide +kernel
theorem dX3_applyValue_43 : decode cX3_applyValue 43 = .ok (.goto 4, 3) := by decide +kernel
theorem dX3_applyValue_46 : decode cX3_applyValue 46 = .ok (.iconst (-1), 1) := by decide +kernel
theorem dX3_applyValue_47 : decode cX3_applyValue 47 = .ok (.istore 4, 2) := by decide +kernel
theorem dX3_applyValue_49 : decode cX3_applyValue 49 = .ok (.aload_n 0, 1) := by decide +kernel
theorem dX3_applyValue_50 : decode cX3_applyValue 50 = .ok (.getfield 186, 3) := by decide +kernel
theorem dX3_applyValue_53 : decode cX3_applyValue 53 = .ok (.getfield 243, 3) := by decide +kernel
theorem dX3_applyValue_56 : decode cX3_applyValue 56 = .ok (.iload 4, 2) := by decide +kernel
theorem dX3_applyValue_58 : decode cX3_applyValue 58 = .ok (.ifCond .ge 8, 3) := by decide +kernel
theorem dX3_applyValue_61 : decode cX3_applyValue 61 = .ok (.lload_n 2, 1) := by decide +kernel
theorem dX3_applyValue_62 : decode cX3_applyValue 62 = .ok (.l2i, 1) := by decide +kernel
theorem dX3_applyValue_63 : decode cX3_applyValue 63 = .ok (.goto 11, 3) := by decide +kernel
theorem dX3_applyValue_66 : decode cX3_applyValue 66 = .ok (.aload_n 0, 1) := by decide +kernel
theorem dX3_applyValue_67 : decode cX3_applyValue 67 = .ok (.getfield 42, 3) := by decide +kernel
theorem dX3_applyValue_70 : decode cX3_applyValue 70 = .ok (.iload 4, 2) := by decide +kernel
theorem dX3_applyValue_72 : decode cX3_applyValue 72 = .ok (.laload, 1) := by decide +kernel
theorem dX3_applyValue_73 : decode cX3_applyValue 73 = .ok (.l2i, 1) := by decide +kernel
theorem dX3_applyValue_74 : decode cX3_applyValue 74 = .ok (.invokevirtual 196, 3) := by decide +kernel
theorem dX3_applyValue_77 : decode cX3_applyValue 77 = .ok (.checkcast 129, 3) := by decide +kernel
theorem dX3_applyValue_80 : decode cX3_applyValue 80 = .ok (.astore 5, 2) := by decide +kernel
theorem dX3_applyValue_82 : decode cX3_applyValue 82 = .ok (.iload 4, 2) := by decide +kernel
theorem dX3_applyValue_84 : decode cX3_applyValue 84 = .ok (.ifCond .ge 7, 3) := by decide +kernel
theorem dX3_applyValue_87 : decode cX3_applyValue 87 = .ok (.iconst 0, 1) := by decide +kernel
theorem dX3_applyValue_88 : decode cX3_applyValue 88 = .ok (.goto 13, 3) := by decide +kernel
theorem dX3_applyValue_91 : decode cX3_applyValue 91 = .ok (.aload_n 0, 1) := by decide +kernel
theorem dX3_applyValue_92 : decode cX3_applyValue 92 = .ok (.getfield 42, 3) := by decide +kernel
theorem dX3_applyValue_95 : decode cX3_applyValue 95 = .ok (.iload 4, 2) := by decide +kernel
theorem dX3_applyValue_97 : decode cX3_applyValue 97 = .ok (.iconst 1, 1) := by decide +kernel
theorem dX3_applyValue_98 : decode cX3_applyValue 98 = .ok (.iadd, 1) := by decide +kernel
theorem dX3_applyValue_99 : decode cX3_applyValue 99 = .ok (.laload, 1) := by decide +kernel
theorem dX3_applyValue_100 : decode cX3_applyValue 100 = .ok (.l2i, 1) := by decide +kernel
theorem dX3_applyValue_101 : decode cX3_applyValue 101 = .ok (.istore 6, 2) := by decide +kernel
theorem dX3_applyValue_103 : decode cX3_applyValue 103 = .ok (.iload 6, 2) := by decide +kernel
theorem dX3_applyValue_105 : decode cX3_applyValue 105 = .ok (.iload_n 1, 1) := by decide +kernel
theorem dX3_applyValue_106 : decode cX3_applyValue 106 = .ok (.iadd, 1) := by decide +kernel
theorem dX3_applyValue_107 : decode cX3_applyValue 107 = .ok (.aload 5, 2) := by decide +kernel
theorem dX3_applyValue_109 : decode cX3_applyValue 109 = .ok (.invokevirtual 228, 3) := by decide +kernel
theorem dX3_applyValue_112 : decode cX3_applyValue 112 = .ok (.if_icmp .lt 13, 3) := by decide +kernel
theorem dX3_applyValue_115 : decode cX3_applyValue 115 = .ok (.aload_n 0, 1) := by decide +kernel
theorem dX3_applyValue_116 : decode cX3_applyValue 116 = .ok (.aload 5, 2) := by decide +kernel
theorem dX3_applyValue_118 : decode cX3_applyValue 118 = .ok (.iload 4, 2) := by decide +kernel
theorem dX3_applyValue_120 : decode cX3_applyValue 120 = .ok (.iload_n 1, 1) := by decide +kernel
theorem dX3_applyValue_121 : decode cX3_applyValue 121 = .ok (.invokevirtual 246, 3) := by decide +kernel
theorem dX3_applyValue_124 : decode cX3_applyValue 124 = .ok (.return_, 1) := by decide +kernel
theorem dX3_applyValue_125 : decode cX3_applyValue 125 = .ok (.aload_n 0, 1) := by decide +kernel
theorem dX3_applyValue_126 : decode cX3_applyValue 126 = .ok (.aload 5, 2) := by decide +kernel
theorem dX3_applyValue_128 : decode cX3_applyValue 128 = .ok (.iload 6, 2) := by decide +kernel
theorem dX3_applyValue_130 : decode cX3_applyValue 130 = .ok (.iload_n 1, 1) := by decide +kernel
theorem dX3_applyValue_131 : decode cX3_applyValue 131 = .ok (.iadd, 1) := by decide +kernel
theorem dX3_applyValue_132 : decode cX3_applyValue 132 = .ok (.invokevirtual 250, 3) := by decide +kernel
theorem dX3_applyValue_135 : decode cX3_applyValue 135 = .ok (.lstore 7, 2) := by decide +kernel
theorem dX3_applyValue_137 : decode cX3_applyValue 137 = .ok (.lload 7, 2) := by decide +kernel
theorem dX3_applyValue_139 : decode cX3_applyValue 139 = .ok (.lconst 0, 1) := by decide +kernel
theorem dX3_applyValue_140 : decode cX3_applyValue 140 = .ok (.lcmp, 1) := by decide +kernel
theorem dX3_applyValue_141 : decode cX3_applyValue 141 = .ok (.ifCond .ge 4, 3) := by decide +kernel
theorem dX3_applyValue_144 : decode cX3_applyValue 144 = .ok (.return_, 1) := by decide +kernel
theorem dX3_applyValue_145 : decode cX3_applyValue 145 = .ok (.lload 7, 2) := by decide +kernel
theorem dX3_applyValue_147 : decode cX3_applyValue 147 = .ok (.l2i, 1) := by decide +kernel
theorem dX3_applyValue_148 : decode cX3_applyValue 148 = .ok (.iconst 2, 1) := by decide +kernel
theorem dX3_applyValue_149 : decode cX3_applyValue 149 = .ok (.iadd, 1) := by decide +kernel
theorem dX3_applyValue_150 : decode cX3_applyValue 150 = .ok (.istore 9, 2) := by decide +kernel
theorem dX3_applyValue_152 : decode cX3_applyValue 152 = .ok (.iconst 0, 1) := by decide +kernel
theorem dX3_applyValue_153 : decode cX3_applyValue 153 = .ok (.istore 10, 2) := by decide +kernel
theorem dX3_applyValue_155 : decode cX3_applyValue 155 = .ok (.iload 10, 2) := by decide +kernel
theorem dX3_applyValue_157 : decode cX3_applyValue 157 = .ok (.iload 6, 2) := by decide +kernel
theorem dX3_applyValue_159 : decode cX3_applyValue 159 = .ok (.if_icmp .ge 31, 3) := by decide +kernel
theorem dX3_applyValue_162 : decode cX3_applyValue 162 = .ok (.aload_n 0, 1) := by decide +kernel
theorem dX3_applyValue_163 : decode cX3_applyValue 163 = .ok (.getfield 42, 3) := by decide +kernel
theorem dX3_applyValue_166 : decode cX3_applyValue 166 = .ok (.iload 9, 2) := by decide +kernel
theorem dX3_applyValue_168 : decode cX3_applyValue 168 = .ok (.iload 10, 2) := by decide +kernel
theorem dX3_applyValue_170 : decode cX3_applyValue 170 = .ok (.iadd, 1) := by decide +kernel
theorem dX3_applyValue_171 : decode cX3_applyValue 171 = .ok (.aload_n 0, 1) := by decide +kernel
theorem dX3_applyValue_172 : decode cX3_applyValue 172 = .ok (.getfield 42, 3) := by decide +kernel
theorem dX3_applyValue_175 : decode cX3_applyValue 175 = .ok (.iload 4, 2) := by decide +kernel
theorem dX3_applyValue_177 : decode cX3_applyValue 177 = .ok (.iconst 2, 1) := by decide +kernel
theorem dX3_applyValue_178 : decode cX3_applyValue 178 = .ok (.iadd, 1) := by decide +kernel
theorem dX3_applyValue_179 : decode cX3_applyValue 179 = .ok (.iload 10, 2) := by decide +kernel
theorem dX3_applyValue_181 : decode cX3_applyValue 181 = .ok (.iadd, 1) := by decide +kernel
theorem dX3_applyValue_182 : decode cX3_applyValue 182 = .ok (.laload, 1) := by decide +kernel
theorem dX3_applyValue_183 : decode cX3_applyValue 183 = .ok (.lastore, 1) := by decide +kernel
theorem dX3_applyValue_184 : decode cX3_applyValue 184 = .ok (.iinc 10 1, 3) := by decide +kernel
theorem dX3_applyValue_187 : decode cX3_applyValue 187 = .ok (.goto (-32), 3) := by decide +kernel
theorem dX3_applyValue_190 : decode cX3_applyValue 190 = .ok (.iconst 0, 1) := by decide +kernel
theorem dX3_applyValue_191 : decode cX3_applyValue 191 = .ok (.istore 10, 2) := by decide +kernel
theorem dX3_applyValue_193 : decode cX3_applyValue 193 = .ok (.iload 10, 2) := by decide +kernel
theorem dX3_applyValue_195 : decode cX3_applyValue 195 = .ok (.iload_n 1, 1) := by decide +kernel
theorem dX3_applyValue_196 : decode cX3_applyValue 196 = .ok (.if_icmp .ge 36, 3) := by decide +kernel
theorem dX3_applyValue_199 : decode cX3_applyValue 199 = .ok (.aload_n 0, 1) := by decide +kernel
theorem dX3_applyValue_200 : decode cX3_applyValue 200 = .ok (.getfield 42, 3) := by decide +kernel
theorem dX3_applyValue_203 : decode cX3_applyValue 203 = .ok (.iload 9, 2) := by decide +kernel
theorem dX3_applyValue_205 : decode cX3_applyValue 205 = .ok (.iload 6, 2) := by decide +kernel
theorem dX3_applyValue_207 : decode cX3_applyValue 207 = .ok (.iadd, 1) := by decide +kernel
theorem dX3_applyValue_208 : decode cX3_applyValue 208 = .ok (.iload 10, 2) := by decide +kernel
theorem dX3_applyValue_210 : decode cX3_applyValue 210 = .ok (.iadd, 1) := by decide +kernel
theorem dX3_applyValue_211 : decode cX3_applyValue 211 = .ok (.aload_n 0, 1) := by decide +kernel
theorem dX3_applyValue_212 : decode cX3_applyValue 212 = .ok (.getfield 56, 3) := by decide +kernel
theorem dX3_applyValue_215 : decode cX3_applyValue 215 = .ok (.aload_n 0, 1) := by decide +kernel
theorem dX3_applyValue_216 : decode cX3_applyValue 216 = .ok (.getfield 85, 3) := by decide +kernel
theorem dX3_applyValue_219 : decode cX3_applyValue 219 = .ok (.iload_n 1, 1) := by decide +kernel
theorem dX3_applyValue_220 : decode cX3_applyValue 220 = .ok (.isub, 1) := by decide +kernel
theorem dX3_applyValue_221 : decode cX3_applyValue 221 = .ok (.iload 10, 2) := by decide +kernel
theorem dX3_applyValue_223 : decode cX3_applyValue 223 = .ok (.iadd, 1) := by decide +kernel
theorem dX3_applyValue_224 : decode cX3_applyValue 224 = .ok (.laload, 1) := by decide +kernel
theorem dX3_applyValue_225 : decode cX3_applyValue 225 = .ok (.lastore, 1) := by decide +kernel
theorem dX3_applyValue_226 : decode cX3_applyValue 226 = .ok (.iinc 10 1, 3) := by decide +kernel
theorem dX3_applyValue_229 : decode cX3_applyValue 229 = .ok (.goto (-36), 3) := by decide +kernel
theorem dX3_applyValue_232 : decode cX3_applyValue 232 = .ok (.aload_n 0, 1) := by decide +kernel
theorem dX3_applyValue_233 : decode cX3_applyValue 233 = .ok (.dup, 1) := by decide +kernel
theorem dX3_applyValue_234 : decode cX3_applyValue 234 = .ok (.getfield 85, 3) := by decide +kernel
theorem dX3_applyValue_237 : decode cX3_applyValue 237 = .ok (.iload_n 1, 1) := by decide +kernel
theorem dX3_applyValue_238 : decode cX3_applyValue 238 = .ok (.isub, 1) := by decide +kernel
theorem dX3_applyValue_239 : decode cX3_applyValue 239 = .ok (.putfield 85, 3) := by decide +kernel
theorem dX3_applyValue_242 : decode cX3_applyValue 242 = .ok (.aload_n 0, 1) := by decide +kernel
theorem dX3_applyValue_243 : decode cX3_applyValue 243 = .ok (.lload 7, 2) := by decide +kernel
theorem dX3_applyValue_245 : decode cX3_applyValue 245 = .ok (.invokevirtual 162, 3) := by decide +kernel
theorem dX3_applyValue_248 : decode cX3_applyValue 248 = .ok (.return_, 1) := by decide +kernel
theorem mw_X3_applyValue : MW yX3_applyValue (Cond.code yX3_applyValue cX3_applyValue 11 (Option.none : Option Jvm.ClassFile.FieldType)) cX3_applyValue 11 (Option.none : Option Jvm.ClassFile.FieldType) 1 := ⟨rfl, ⟨(lw_all_tbl q2221), rfl, (lw_all_tbl q165)⟩, rfl, ⟨by decide, by decide⟩, by decide +kernel⟩
abbrev okc_X3_applyValue_155 (x : Int × Int × Int × Int × Int × Int × Int) : Prop := R32 x.2.1 ∧ R32 x.2.2.1 ∧ R32 x.2.2.2.1 ∧ R64 x.2.2.2.2.1 ∧ R32 x.2.2.2.2.2.1 ∧ R32 x.2.2.2.2.2.2
abbrev lvc_X3_applyValue_155 (Γ : Gm) (x : Int × Int × Int × Int × Int × Int × Int) : List (Nat × Value) := [(0, vA (mg Γ) x.1), (1, vI x.2.1), (4, vI x.2.2.1), (6, vI x.2.2.2.1), (7, vJ x.2.2.2.2.1), (9, vI x.2.2.2.2.2.1), (10, vI x.2.2.2.2.2.2)]
noncomputable def c_X3_applyValue_155b {A : Type} (k_190 : Int → Int → Int → Int → Int → Mo CH A) (l0 : Int) (l1 : Int) (l4 : Int) (l6 : Int) (l7 : Int) (l9 : Int) (l10 : Int) : Mo CH ((Int × Int × Int × Int × Int × Int × Int) ⊕ A) :=
  if l6 ≤ l10 then
    lo (k_190 l0 l1 l6 l7 l9)
  else
    bnd (gf [103] 5 l0) fun v1 =>
    bnd (gf [103] 5 l0) fun v2 =>
    bnd (ald 1 v2 (w32 ((w32 (l4 + 2)) + l10))) fun v3 =>
    bnd (ast 1 v1 (w32 (l9 + l10)) v3) fun _ =>
    pr (.inl (l0, l1, l4, l6, l7, l9, (w32 (l10 + 1))))
theorem sc_X3_applyValue_155b {Γ : Gm} {ts : TS} {d : Nat} (o : Ok Γ "LazyForge$Machine" cX3_applyValue 11 (Option.none : Option Jvm.ClassFile.FieldType) (d + 5)) {A : Type} {K : A → CH → Prop} (k_190 : Int → Int → Int → Int → Int → Mo CH A) (hk_190 : ∀ (l0 : Int) (l1 : Int) (l6 : Int) (l7 : Int) (l9 : Int), R32 l1 → R32 l6 → R64 l7 → R32 l9 → Sx Γ (fun h => (h, ts)) K 190 [(0, vA (mg Γ) l0), (1, vI l1), (6, vI l6), (7, vJ l7), (9, vI l9)] [] (k_190 l0 l1 l6 l7 l9)) (l0 : Int) (l1 : Int) (l4 : Int) (l6 : Int) (l7 : Int) (l9 : Int) (l10 : Int) (hl1 : R32 l1) (hl4 : R32 l4) (hl6 : R32 l6) (hl7 : R64 l7) (hl9 : R32 l9) (hl10 : R32 l10) : Sx Γ (fun h => (h, ts)) (KL Γ (fun h => (h, ts)) okc_X3_applyValue_155 K 155 (lvc_X3_applyValue_155 Γ) []) 155 [(0, vA (mg Γ) l0), (1, vI l1), (4, vI l4), (6, vI l6), (7, vJ l7), (9, vI l9), (10, vI l10)] [] (c_X3_applyValue_155b k_190 l0 l1 l4 l6 l7 l9 l10) := by
  unfold c_X3_applyValue_155b
  refine s_iload o dX3_applyValue_155 6 rfl ?_
  refine s_iload o dX3_applyValue_157 3 rfl ?_
  refine s_icmp_ge (tgt := 190) o dX3_applyValue_159 (by decide) hl10 hl6 ?_ ?_
  · refine r_to [(0, vA (mg Γ) l0), (1, vI l1), (6, vI l6), (7, vJ l7), (9, vI l9)] [0, 1, 3, 4, 5] rfl ?_
    exact s_lo (hk_190 l0 l1 l6 l7 l9 hl1 hl6 hl7 hl9)
  · refine s_aload_n o dX3_applyValue_162 rfl 0 rfl ?_
    refine r_getf (vA (mg Γ)) rfl o cf_X3_cells (Or.inl (lw_all_tbl q333)) dX3_applyValue_163 (fun v1 hv1 => ?_)
    refine s_iload o dX3_applyValue_166 5 rfl ?_
    refine s_iload o dX3_applyValue_168 6 rfl ?_
    refine s_iadd o dX3_applyValue_170 ?_
    refine s_aload_n o dX3_applyValue_171 rfl 0 rfl ?_
    refine r_getf (vA (mg Γ)) rfl o cf_X3_cells (Or.inl (lw_all_tbl q333)) dX3_applyValue_172 (fun v2 hv2 => ?_)
    refine s_iload o dX3_applyValue_175 2 rfl ?_
    refine s_iconst o dX3_applyValue_177 ?_
    refine s_iadd o dX3_applyValue_178 ?_
    refine s_iload o dX3_applyValue_179 6 rfl ?_
    refine s_iadd o dX3_applyValue_181 ?_
    refine r_lald o (w32_R _) dX3_applyValue_182 (fun v3 hv3 => ?_)
    refine r_last o (w32_R _) hv3 dX3_applyValue_183 ?_
    refine r_iinc (j := 6) o dX3_applyValue_184 rfl rfl [(0, vA (mg Γ) l0), (1, vI l1), (4, vI l4), (6, vI l6), (7, vJ l7), (9, vI l9)] [0, 1, 2, 3, 4, 5] rfl ⟨(Nat.ne_of_beq_eq_false rfl), (fun _ => (vA_cat (mg Γ) l0)), ⟨(Nat.ne_of_beq_eq_false rfl), (fun _ => rfl), ⟨(Nat.ne_of_beq_eq_false rfl), (fun _ => rfl), ⟨(Nat.ne_of_beq_eq_false rfl), (fun _ => rfl), ⟨(Nat.ne_of_beq_eq_false rfl), (fun e => absurd e (Nat.ne_of_beq_eq_false rfl)), ⟨(Nat.ne_of_beq_eq_false rfl), (fun _ => rfl), trivial⟩⟩⟩⟩⟩⟩ ?_
    refine s_goto (tgt := 155) o dX3_applyValue_187 (by decide) ?_
    refine r_to [(0, vA (mg Γ) l0), (1, vI l1), (4, vI l4), (6, vI l6), (7, vJ l7), (9, vI l9), (10, vI (w32 (l10 + 1)))] [1, 2, 3, 4, 5, 6, 0] rfl ?_
    exact s_back (⟨hl1, hl4, hl6, hl7, hl9, (w32_R _)⟩) rfl
noncomputable def c_X3_applyValue_155 {A : Type} (k_190 : Int → Int → Int → Int → Int → Mo CH A) (l0 : Int) (l1 : Int) (l4 : Int) (l6 : Int) (l7 : Int) (l9 : Int) (l10 : Int) : Mo CH A := Loop (fun x => c_X3_applyValue_155b k_190 x.1 x.2.1 x.2.2.1 x.2.2.2.1 x.2.2.2.2.1 x.2.2.2.2.2.1 x.2.2.2.2.2.2) (l0, l1, l4, l6, l7, l9, l10)
theorem sc_X3_applyValue_155 {Γ : Gm} {ts : TS} {d : Nat} (o : Ok Γ "LazyForge$Machine" cX3_applyValue 11 (Option.none : Option Jvm.ClassFile.FieldType) (d + 5)) {A : Type} {K : A → CH → Prop} (k_190 : Int → Int → Int → Int → Int → Mo CH A) (hk_190 : ∀ (l0 : Int) (l1 : Int) (l6 : Int) (l7 : Int) (l9 : Int), R32 l1 → R32 l6 → R64 l7 → R32 l9 → Sx Γ (fun h => (h, ts)) K 190 [(0, vA (mg Γ) l0), (1, vI l1), (6, vI l6), (7, vJ l7), (9, vI l9)] [] (k_190 l0 l1 l6 l7 l9)) (l0 : Int) (l1 : Int) (l4 : Int) (l6 : Int) (l7 : Int) (l9 : Int) (l10 : Int) (hl1 : R32 l1) (hl4 : R32 l4) (hl6 : R32 l6) (hl7 : R64 l7) (hl9 : R32 l9) (hl10 : R32 l10) : Sx Γ (fun h => (h, ts)) K 155 [(0, vA (mg Γ) l0), (1, vI l1), (4, vI l4), (6, vI l6), (7, vJ l7), (9, vI l9), (10, vI l10)] [] (c_X3_applyValue_155 k_190 l0 l1 l4 l6 l7 l9 l10) :=
  s_loop okc_X3_applyValue_155 (lvc_X3_applyValue_155 Γ) (fun x hx => sc_X3_applyValue_155b o k_190 hk_190 x.1 x.2.1 x.2.2.1 x.2.2.2.1 x.2.2.2.2.1 x.2.2.2.2.2.1 x.2.2.2.2.2.2 hx.1 hx.2.1 hx.2.2.1 hx.2.2.2.1 hx.2.2.2.2.1 hx.2.2.2.2.2) (x := (l0, l1, l4, l6, l7, l9, l10)) ⟨hl1, hl4, hl6, hl7, hl9, hl10⟩
abbrev okc_X3_applyValue_193 (x : Int × Int × Int × Int × Int × Int) : Prop := R32 x.2.1 ∧ R32 x.2.2.1 ∧ R64 x.2.2.2.1 ∧ R32 x.2.2.2.2.1 ∧ R32 x.2.2.2.2.2
abbrev lvc_X3_applyValue_193 (Γ : Gm) (x : Int × Int × Int × Int × Int × Int) : List (Nat × Value) := [(0, vA (mg Γ) x.1), (1, vI x.2.1), (6, vI x.2.2.1), (7, vJ x.2.2.2.1), (9, vI x.2.2.2.2.1), (10, vI x.2.2.2.2.2)]
noncomputable def c_X3_applyValue_193b {A : Type} (k_232 : Int → Int → Int → Mo CH A) (l0 : Int) (l1 : Int) (l6 : Int) (l7 : Int) (l9 : Int) (l10 : Int) : Mo CH ((Int × Int × Int × Int × Int × Int) ⊕ A) :=
  if l1 ≤ l10 then
    lo (k_232 l0 l1 l7)
  else
    bnd (gf [103] 5 l0) fun v1 =>
    bnd (gf [103] 9 l0) fun v2 =>
    bnd (gf [103] 10 l0) fun v3 =>
    bnd (ald 1 v2 (w32 ((w32 (v3 - l1)) + l10))) fun v4 =>
    bnd (ast 1 v1 (w32 ((w32 (l9 + l6)) + l10)) v4) fun _ =>
    pr (.inl (l0, l1, l6, l7, l9, (w32 (l10 + 1))))
theorem sc_X3_applyValue_193b {Γ : Gm} {ts : TS} {d : Nat} (o : Ok Γ "LazyForge$Machine" cX3_applyValue 11 (Option.none : Option Jvm.ClassFile.FieldType) (d + 5)) {A : Type} {K : A → CH → Prop} (k_232 : Int → Int → Int → Mo CH A) (hk_232 : ∀ (l0 : Int) (l1 : Int) (l7 : Int), R32 l1 → R64 l7 → Sx Γ (fun h => (h, ts)) K 232 [(0, vA (mg Γ) l0), (1, vI l1), (7, vJ l7)] [] (k_232 l0 l1 l7)) (l0 : Int) (l1 : Int) (l6 : Int) (l7 : Int) (l9 : Int) (l10 : Int) (hl1 : R32 l1) (hl6 : R32 l6) (hl7 : R64 l7) (hl9 : R32 l9) (hl10 : R32 l10) : Sx Γ (fun h => (h, ts)) (KL Γ (fun h => (h, ts)) okc_X3_applyValue_193 K 193 (lvc_X3_applyValue_193 Γ) []) 193 [(0, vA (mg Γ) l0), (1, vI l1), (6, vI l6), (7, vJ l7), (9, vI l9), (10, vI l10)] [] (c_X3_applyValue_193b k_232 l0 l1 l6 l7 l9 l10) := by
  unfold c_X3_applyValue_193b
  refine s_iload o dX3_applyValue_193 5 rfl ?_
  refine s_iload_n o dX3_applyValue_195 rfl 1 rfl ?_
  refine s_icmp_ge (tgt := 232) o dX3_applyValue_196 (by decide) hl10 hl1 ?_ ?_
  · refine r_to [(0, vA (mg Γ) l0), (1, vI l1), (7, vJ l7)] [0, 1, 3] rfl ?_
    exact s_lo (hk_232 l0 l1 l7 hl1 hl7)
  · refine s_aload_n o dX3_applyValue_199 rfl 0 rfl ?_
    refine r_getf (vA (mg Γ)) rfl o cf_X3_cells (Or.inl (lw_all_tbl q333)) dX3_applyValue_200 (fun v1 hv1 => ?_)
    refine s_iload o dX3_applyValue_203 4 rfl ?_
    refine s_iload o dX3_applyValue_205 2 rfl ?_
    refine s_iadd o dX3_applyValue_207 ?_
    refine s_iload o dX3_applyValue_208 5 rfl ?_
    refine s_iadd o dX3_applyValue_210 ?_
    refine s_aload_n o dX3_applyValue_211 rfl 0 rfl ?_
    refine r_getf (vA (mg Γ)) rfl o cf_X3_values (Or.inl (lw_all_tbl q338)) dX3_applyValue_212 (fun v2 hv2 => ?_)
    refine s_aload_n o dX3_applyValue_215 rfl 0 rfl ?_
    refine r_getf vI rfl o cf_X3_has (Or.inl (lw_all_tbl q339)) dX3_applyValue_216 (fun v3 hv3 => ?_)
    refine s_iload_n o dX3_applyValue_219 rfl 1 rfl ?_
    refine s_isub o dX3_applyValue_220 ?_
    refine s_iload o dX3_applyValue_221 5 rfl ?_
    refine s_iadd o dX3_applyValue_223 ?_
    refine r_lald o (w32_R _) dX3_applyValue_224 (fun v4 hv4 => ?_)
    refine r_last o (w32_R _) hv4 dX3_applyValue_225 ?_
    refine r_iinc (j := 5) o dX3_applyValue_226 rfl rfl [(0, vA (mg Γ) l0), (1, vI l1), (6, vI l6), (7, vJ l7), (9, vI l9)] [0, 1, 2, 3, 4] rfl ⟨(Nat.ne_of_beq_eq_false rfl), (fun _ => (vA_cat (mg Γ) l0)), ⟨(Nat.ne_of_beq_eq_false rfl), (fun _ => rfl), ⟨(Nat.ne_of_beq_eq_false rfl), (fun _ => rfl), ⟨(Nat.ne_of_beq_eq_false rfl), (fun e => absurd e (Nat.ne_of_beq_eq_false rfl)), ⟨(Nat.ne_of_beq_eq_false rfl), (fun _ => rfl), trivial⟩⟩⟩⟩⟩ ?_
    refine s_goto (tgt := 193) o dX3_applyValue_229 (by decide) ?_
    refine r_to [(0, vA (mg Γ) l0), (1, vI l1), (6, vI l6), (7, vJ l7), (9, vI l9), (10, vI (w32 (l10 + 1)))] [1, 2, 3, 4, 5, 0] rfl ?_
    exact s_back (⟨hl1, hl6, hl7, hl9, (w32_R _)⟩) rfl
noncomputable def c_X3_applyValue_193 {A : Type} (k_232 : Int → Int → Int → Mo CH A) (l0 : Int) (l1 : Int) (l6 : Int) (l7 : Int) (l9 : Int) (l10 : Int) : Mo CH A := Loop (fun x => c_X3_applyValue_193b k_232 x.1 x.2.1 x.2.2.1 x.2.2.2.1 x.2.2.2.2.1 x.2.2.2.2.2) (l0, l1, l6, l7, l9, l10)
theorem sc_X3_applyValue_193 {Γ : Gm} {ts : TS} {d : Nat} (o : Ok Γ "LazyForge$Machine" cX3_applyValue 11 (Option.none : Option Jvm.ClassFile.FieldType) (d + 5)) {A : Type} {K : A → CH → Prop} (k_232 : Int → Int → Int → Mo CH A) (hk_232 : ∀ (l0 : Int) (l1 : Int) (l7 : Int), R32 l1 → R64 l7 → Sx Γ (fun h => (h, ts)) K 232 [(0, vA (mg Γ) l0), (1, vI l1), (7, vJ l7)] [] (k_232 l0 l1 l7)) (l0 : Int) (l1 : Int) (l6 : Int) (l7 : Int) (l9 : Int) (l10 : Int) (hl1 : R32 l1) (hl6 : R32 l6) (hl7 : R64 l7) (hl9 : R32 l9) (hl10 : R32 l10) : Sx Γ (fun h => (h, ts)) K 193 [(0, vA (mg Γ) l0), (1, vI l1), (6, vI l6), (7, vJ l7), (9, vI l9), (10, vI l10)] [] (c_X3_applyValue_193 k_232 l0 l1 l6 l7 l9 l10) :=
  s_loop okc_X3_applyValue_193 (lvc_X3_applyValue_193 Γ) (fun x hx => sc_X3_applyValue_193b o k_232 hk_232 x.1 x.2.1 x.2.2.1 x.2.2.2.1 x.2.2.2.2.1 x.2.2.2.2.2 hx.1 hx.2.1 hx.2.2.1 hx.2.2.2.1 hx.2.2.2.2) (x := (l0, l1, l6, l7, l9, l10)) ⟨hl1, hl6, hl7, hl9, hl10⟩
noncomputable def c_X3_applyValue_101  (l0 : Int) (l1 : Int) (l4 : Int) (l5 : Int) (k0 : Int) : Mo CH Int :=
  bnd (isk 116 l5) fun _ =>
  bnd (c_X16_parameters l5) fun v1 =>
  if (w32 (k0 + l1)) < v1 then
    bnd (isk 103 l0) fun _ =>
    bnd (c_X3_partOfCall l0 l5 (w32 (k0 + l1))) fun v2 =>
    if 0 ≤ v2 then
      c_X3_applyValue_155
        (fun v3 v4 v5 v6 v7 => c_X3_applyValue_193
        (fun v8 v9 v10 => bnd (gf [103] 10 v8) fun v11 =>
      bnd (pf [103] 10 v8 (w32 (v11 - v9))) fun _ =>
      bnd (isk 103 v8) fun _ =>
      bnd (c_X3_give v8 v10) fun _ =>
      pr 0) v3 v4 v5 v6 v7 0) l0 l1 l4 k0 v2 (w32 ((l2i v2) + 2)) 0
    else
      pr 0
  else
    bnd (isk 103 l0) fun _ =>
    bnd (c_X3_call l0 l5 l4 l1) fun _ =>
    pr 0
theorem sc_X3_applyValue_101 {Γ : Gm} {ts : TS} {d : Nat} (o : Ok Γ "LazyForge$Machine" cX3_applyValue 11 (Option.none : Option Jvm.ClassFile.FieldType) (d + 5))   (l0 : Int) (l1 : Int) (l4 : Int) (l5 : Int) (k0 : Int) (hl1 : R32 l1) (hl4 : R32 l4) (hk0 : R32 k0) : Sx Γ (fun h => (h, ts)) (fun a s => mt Γ = (0, a, ((s, ts) : Wd))) 101 [(0, vA (mg Γ) l0), (1, vI l1), (4, vI l4), (5, vA (mg Γ) l5)] [vI k0] (c_X3_applyValue_101 l0 l1 l4 l5 k0) := by
  unfold c_X3_applyValue_101
  refine r_istore o dX3_applyValue_101 rfl ⟨(Nat.ne_of_beq_eq_false rfl), (fun _ => (vA_cat (mg Γ) l0)), ⟨(Nat.ne_of_beq_eq_false rfl), (fun _ => rfl), ⟨(Nat.ne_of_beq_eq_false rfl), (fun _ => rfl), ⟨(Nat.ne_of_beq_eq_false rfl), (fun _ => (vA_cat (mg Γ) l5)), trivial⟩⟩⟩⟩ ?_
  refine s_iload o dX3_applyValue_103 0 rfl ?_
  refine s_iload_n o dX3_applyValue_105 rfl 2 rfl ?_
  refine s_iadd o dX3_applyValue_106 ?_
  refine s_aload o dX3_applyValue_107 4 rfl ?_
  refine s_cvC (d := d + 4) (As := []) (st := [vI (w32 (k0 + l1))]) (c := 16) o (sc_X16_parameters (mg Γ) (d + 3) ts l5) mw_X16_parameters rfl (Or.inl (lw_all_tbl q2158)) rfl (lw_all_tbl q1606) (lw_all_tbl q1605) (wt_I wt_0) rfl dX3_applyValue_109 rfl (rs := fun r => [vI r, vI (w32 (k0 + l1))]) (fun _ => rfl) (fun v1 hv1 => ?_)
  refine s_icmp_lt (tgt := 125) o dX3_applyValue_112 (by decide) (w32_R _) (hv1 _ rfl) ?_ ?_
  · refine s_aload_n o dX3_applyValue_125 rfl 1 rfl ?_
    refine s_aload o dX3_applyValue_126 4 rfl ?_
    refine s_iload o dX3_applyValue_128 0 rfl ?_
    refine s_iload_n o dX3_applyValue_130 rfl 2 rfl ?_
    refine s_iadd o dX3_applyValue_131 ?_
    refine s_cvC (d := d + 4) (As := [vA (mg Γ) l5, vI (w32 (k0 + l1))]) (st := []) (c := 3) o (sc_X3_partOfCall (mg Γ) (d + 2) ts l0 l5 (w32 (k0 + l1)) (w32_R _)) mw_X3_partOfCall rfl (Or.inl (lw_all_tbl q2236)) rfl (lw_all_tbl q2238) (lw_all_tbl q2237) wt_0 rfl dX3_applyValue_132 rfl (rs := fun r => [vJ r]) (fun _ => rfl) (fun v2 hv2 => ?_)
    refine r_lstore o dX3_applyValue_135 rfl ⟨(Nat.ne_of_beq_eq_false rfl), (Nat.ne_of_beq_eq_false rfl), (fun _ => rfl), ⟨(Nat.ne_of_beq_eq_false rfl), (Nat.ne_of_beq_eq_false rfl), (fun _ => (vA_cat (mg Γ) l0)), ⟨(Nat.ne_of_beq_eq_false rfl), (Nat.ne_of_beq_eq_false rfl), (fun _ => rfl), ⟨(Nat.ne_of_beq_eq_false rfl), (Nat.ne_of_beq_eq_false rfl), (fun _ => rfl), ⟨(Nat.ne_of_beq_eq_false rfl), (Nat.ne_of_beq_eq_false rfl), (fun _ => (vA_cat (mg Γ) l5)), trivial⟩⟩⟩⟩⟩ ?_
    refine s_lload o dX3_applyValue_137 0 rfl ?_
    refine s_lconst (x := 0) o dX3_applyValue_139 rfl ?_
    refine s_lcmp_ge (tgt := 145) o dX3_applyValue_140 dX3_applyValue_141 (by decide) (hv2 _ rfl) (r64 rfl) ?_ ?_
    · refine s_lload o dX3_applyValue_145 0 rfl ?_
      refine s_l2i o dX3_applyValue_147 ?_
      refine s_iconst o dX3_applyValue_148 ?_
      refine s_iadd o dX3_applyValue_149 ?_
      refine r_istore o dX3_applyValue_150 rfl ⟨(Nat.ne_of_beq_eq_false rfl), (fun e => absurd e (Nat.ne_of_beq_eq_false rfl)), ⟨(Nat.ne_of_beq_eq_false rfl), (fun _ => rfl), ⟨(Nat.ne_of_beq_eq_false rfl), (fun _ => (vA_cat (mg Γ) l0)), ⟨(Nat.ne_of_beq_eq_false rfl), (fun _ => rfl), ⟨(Nat.ne_of_beq_eq_false rfl), (fun _ => rfl), ⟨(Nat.ne_of_beq_eq_false rfl), (fun _ => (vA_cat (mg Γ) l5)), trivial⟩⟩⟩⟩⟩⟩ ?_
      refine s_iconst o dX3_applyValue_152 ?_
      refine r_istore o dX3_applyValue_153 rfl ⟨(Nat.ne_of_beq_eq_false rfl), (fun _ => rfl), ⟨(Nat.ne_of_beq_eq_false rfl), (fun e => absurd e (Nat.ne_of_beq_eq_false rfl)), ⟨(Nat.ne_of_beq_eq_false rfl), (fun _ => rfl), ⟨(Nat.ne_of_beq_eq_false rfl), (fun _ => (vA_cat (mg Γ) l0)), ⟨(Nat.ne_of_beq_eq_false rfl), (fun _ => rfl), ⟨(Nat.ne_of_beq_eq_false rfl), (fun _ => rfl), ⟨(Nat.ne_of_beq_eq_false rfl), (fun _ => (vA_cat (mg Γ) l5)), trivial⟩⟩⟩⟩⟩⟩⟩ ?_
      refine r_to [(0, vA (mg Γ) l0), (1, vI l1), (4, vI l4), (6, vI k0), (7, vJ v2), (9, vI (w32 ((l2i v2) + 2))), (10, vI 0)] [4, 5, 6, 3, 2, 1, 0] rfl ?_
      refine sc_X3_applyValue_155 o _ ?_ l0 l1 l4 k0 v2 (w32 ((l2i v2) + 2)) 0 hl1 hl4 hk0 (hv2 _ rfl) (w32_R _) (r32 rfl)
      · intro v3 v4 v5 v6 v7 hv4 hv5 hv6 hv7
        refine s_iconst o dX3_applyValue_190 ?_
        refine r_istore o dX3_applyValue_191 rfl ⟨(Nat.ne_of_beq_eq_false rfl), (fun _ => (vA_cat (mg Γ) v3)), ⟨(Nat.ne_of_beq_eq_false rfl), (fun _ => rfl), ⟨(Nat.ne_of_beq_eq_false rfl), (fun _ => rfl), ⟨(Nat.ne_of_beq_eq_false rfl), (fun e => absurd e (Nat.ne_of_beq_eq_false rfl)), ⟨(Nat.ne_of_beq_eq_false rfl), (fun _ => rfl), trivial⟩⟩⟩⟩⟩ ?_
        refine r_to [(0, vA (mg Γ) v3), (1, vI v4), (6, vI v5), (7, vJ v6), (9, vI v7), (10, vI 0)] [1, 2, 3, 4, 5, 0] rfl ?_
        refine sc_X3_applyValue_193 o _ ?_ v3 v4 v5 v6 v7 0 hv4 hv5 hv6 hv7 (r32 rfl)
        · intro v8 v9 v10 hv9 hv10
          refine s_aload_n o dX3_applyValue_232 rfl 0 rfl ?_
          refine s_dup o dX3_applyValue_233 (vA_cat (mg Γ) v8) ?_
          refine r_getf vI rfl o cf_X3_has (Or.inl (lw_all_tbl q339)) dX3_applyValue_234 (fun v11 hv11 => ?_)
          refine s_iload_n o dX3_applyValue_237 rfl 1 rfl ?_
          refine s_isub o dX3_applyValue_238 ?_
          refine r_putf vI rfl o cf_X3_has (Or.inl (lw_all_tbl q339)) dX3_applyValue_239 (Or.inl rfl) (w32_R _) ty_int ?_
          refine s_aload_n o dX3_applyValue_242 rfl 0 rfl ?_
          refine s_lload o dX3_applyValue_243 2 rfl ?_
          refine s_cvC (d := d + 4) (As := [vJ v10]) (st := []) (c := 3) o (sc_X3_give (mg Γ) (d + 2) ts v8 v10 hv10) mw_X3_give rfl (Or.inl (lw_all_tbl q2186)) rfl (lw_all_tbl q2188) (lw_all_tbl q2187) wt_0 rfl dX3_applyValue_245 rfl (rs := fun _ => []) (fun _ => rfl) (fun _ _ => ?_)
          exact s_vret o rfl dX3_applyValue_248 (fun _ hh => hh)
    · exact s_vret o rfl dX3_applyValue_144 (fun _ hh => hh)
  · refine s_aload_n o dX3_applyValue_115 rfl 1 rfl ?_
    refine s_aload o dX3_applyValue_116 4 rfl ?_
    refine s_iload o dX3_applyValue_118 3 rfl ?_
    refine s_iload_n o dX3_applyValue_120 rfl 2 rfl ?_
    refine s_cvC (d := d + 4) (As := [vA (mg Γ) l5, vI l4, vI l1]) (st := []) (c := 3) o (sc_X3_call (mg Γ) d ts l0 l5 l4 l1 hl4 hl1) mw_X3_call rfl (Or.inl (lw_all_tbl q2228)) rfl (lw_all_tbl q2230) (lw_all_tbl q2229) wt_0 rfl dX3_applyValue_121 rfl (rs := fun _ => []) (fun _ => rfl) (fun _ _ => ?_)
    exact s_vret o rfl dX3_applyValue_124 (fun _ hh => hh)
noncomputable def c_X3_applyValue_74  (l0 : Int) (l1 : Int) (l4 : Int) (k0 : Int) (k1 : Int) : Mo CH Int :=
  bnd (isk 127 k1) fun _ =>
  bnd (c_J13_get k1 k0) fun v1 =>
  bnd (ckk [116] v1) fun _ =>
  if 0 ≤ l4 then
    bnd (gf [103] 5 l0) fun v2 =>
    bnd (ald 1 v2 (w32 (l4 + 1))) fun v3 =>
    c_X3_applyValue_101 l0 l1 l4 v1 (l2i v3)
  else
    c_X3_applyValue_101 l0 l1 l4 v1 0
theorem sc_X3_applyValue_74 {Γ : Gm} {ts : TS} {d : Nat} (o : Ok Γ "LazyForge$Machine" cX3_applyValue 11 (Option.none : Option Jvm.ClassFile.FieldType) (d + 5))   (l0 : Int) (l1 : Int) (l4 : Int) (k0 : Int) (k1 : Int) (hl1 : R32 l1) (hl4 : R32 l4) (hk0 : R32 k0) : Sx Γ (fun h => (h, ts)) (fun a s => mt Γ = (0, a, ((s, ts) : Wd))) 74 [(0, vA (mg Γ) l0), (1, vI l1), (4, vI l4)] [vI k0, vA (mg Γ) k1] (c_X3_applyValue_74 l0 l1 l4 k0 k1) := by
  unfold c_X3_applyValue_74
  refine s_cvC (d := d + 4) (As := [vI k0]) (st := []) (c := 27) o (sc_J13_get (mg Γ) (d + 2) ts k1 k0 hk0) mw_J13_get rfl (Or.inl (lw_all_tbl q2156)) rfl (lw_all_tbl q1268) (lw_all_tbl q1267) wt_0 rfl dX3_applyValue_74 rfl (rs := fun r => [vA (mg Γ) r]) (fun _ => rfl) (fun v1 hv1 => ?_)
  refine s_cast o (cs_X16 o) (lw_all_tbl q2157) dX3_applyValue_77 ?_
  refine r_astore o dX3_applyValue_80 rfl ⟨(Nat.ne_of_beq_eq_false rfl), (fun _ => (vA_cat (mg Γ) l0)), ⟨(Nat.ne_of_beq_eq_false rfl), (fun _ => rfl), ⟨(Nat.ne_of_beq_eq_false rfl), (fun _ => rfl), trivial⟩⟩⟩ ?_
  refine s_iload o dX3_applyValue_82 3 rfl ?_
  refine s_if_ge (tgt := 91) o dX3_applyValue_84 (by decide) hl4 ?_ ?_
  · refine s_aload_n o dX3_applyValue_91 rfl 1 rfl ?_
    refine r_getf (vA (mg Γ)) rfl o cf_X3_cells (Or.inl (lw_all_tbl q333)) dX3_applyValue_92 (fun v2 hv2 => ?_)
    refine s_iload o dX3_applyValue_95 3 rfl ?_
    refine s_iconst o dX3_applyValue_97 ?_
    refine s_iadd o dX3_applyValue_98 ?_
    refine r_lald o (w32_R _) dX3_applyValue_99 (fun v3 hv3 => ?_)
    refine s_l2i o dX3_applyValue_100 ?_
    refine r_to [(0, vA (mg Γ) l0), (1, vI l1), (4, vI l4), (5, vA (mg Γ) v1)] [1, 2, 3, 0] rfl ?_
    exact sc_X3_applyValue_101 o l0 l1 l4 v1 (l2i v3) hl1 hl4 (l2i_R _)
  · refine s_iconst o dX3_applyValue_87 ?_
    refine s_goto (tgt := 101) o dX3_applyValue_88 (by decide) ?_
    refine r_to [(0, vA (mg Γ) l0), (1, vI l1), (4, vI l4), (5, vA (mg Γ) v1)] [1, 2, 3, 0] rfl ?_
    exact sc_X3_applyValue_101 o l0 l1 l4 v1 0 hl1 hl4 (r32 rfl)
noncomputable def c_X3_applyValue_47  (l0 : Int) (l1 : Int) (l2 : Int) (k0 : Int) : Mo CH Int :=
  bnd (gf [103] 16 l0) fun v1 =>
  bnd (gf [115] 0 v1) fun v2 =>
  if 0 ≤ k0 then
    bnd (gf [103] 5 l0) fun v3 =>
    bnd (ald 1 v3 k0) fun v4 =>
    c_X3_applyValue_74 l0 l1 k0 (l2i v4) v2
  else
    c_X3_applyValue_74 l0 l1 k0 (l2i l2) v2
theorem sc_X3_applyValue_47 {Γ : Gm} {ts : TS} {d : Nat} (o : Ok Γ "LazyForge$Machine" cX3_applyValue 11 (Option.none : Option Jvm.ClassFile.FieldType) (d + 5))   (l0 : Int) (l1 : Int) (l2 : Int) (k0 : Int) (hl1 : R32 l1) (hl2 : R64 l2) (hk0 : R32 k0) : Sx Γ (fun h => (h, ts)) (fun a s => mt Γ = (0, a, ((s, ts) : Wd))) 47 [(0, vA (mg Γ) l0), (1, vI l1), (2, vJ l2)] [vI k0] (c_X3_applyValue_47 l0 l1 l2 k0) := by
  unfold c_X3_applyValue_47
  refine r_istore o dX3_applyValue_47 rfl ⟨(Nat.ne_of_beq_eq_false rfl), (fun _ => (vA_cat (mg Γ) l0)), ⟨(Nat.ne_of_beq_eq_false rfl), (fun _ => rfl), ⟨(Nat.ne_of_beq_eq_false rfl), (fun e => absurd e (Nat.ne_of_beq_eq_false rfl)), trivial⟩⟩⟩ ?_
  refine s_aload_n o dX3_applyValue_49 rfl 1 rfl ?_
  refine r_getf (vA (mg Γ)) rfl o cf_X3_program (Or.inl (lw_all_tbl q345)) dX3_applyValue_50 (fun v1 hv1 => ?_)
  refine r_getf (vA (mg Γ)) rfl o cf_X15_functions (Or.inr (Or.inl ⟨_, q1060⟩)) dX3_applyValue_53 (fun v2 hv2 => ?_)
  refine s_iload o dX3_applyValue_56 0 rfl ?_
  refine s_if_ge (tgt := 66) o dX3_applyValue_58 (by decide) hk0 ?_ ?_
  · refine s_aload_n o dX3_applyValue_66 rfl 1 rfl ?_
    refine r_getf (vA (mg Γ)) rfl o cf_X3_cells (Or.inl (lw_all_tbl q333)) dX3_applyValue_67 (fun v3 hv3 => ?_)
    refine s_iload o dX3_applyValue_70 0 rfl ?_
    refine r_lald o hk0 dX3_applyValue_72 (fun v4 hv4 => ?_)
    refine s_l2i o dX3_applyValue_73 ?_
    refine r_to [(0, vA (mg Γ) l0), (1, vI l1), (4, vI k0)] [1, 2, 0] rfl ?_
    exact sc_X3_applyValue_74 o l0 l1 k0 (l2i v4) v2 hl1 hk0 (l2i_R _)
  · refine s_lload_n o dX3_applyValue_61 rfl 3 rfl ?_
    refine s_l2i o dX3_applyValue_62 ?_
    refine s_goto (tgt := 74) o dX3_applyValue_63 (by decide) ?_
    refine r_to [(0, vA (mg Γ) l0), (1, vI l1), (4, vI k0)] [1, 2, 0] rfl ?_
    exact sc_X3_applyValue_74 o l0 l1 k0 (l2i l2) v2 hl1 hk0 (l2i_R _)
noncomputable def c_X3_applyValue_31  (l0 : Int) (l1 : Int) (l2 : Int) : Mo CH Int :=
  bnd (c_X1_isSort l2 17179869184) fun v1 =>
  if v1 = 0 then
    c_X3_applyValue_47 l0 l1 l2 (-1)
  else
    c_X3_applyValue_47 l0 l1 l2 (l2i l2)
theorem sc_X3_applyValue_31 {Γ : Gm} {ts : TS} {d : Nat} (o : Ok Γ "LazyForge$Machine" cX3_applyValue 11 (Option.none : Option Jvm.ClassFile.FieldType) (d + 5))   (l0 : Int) (l1 : Int) (l2 : Int) (hl1 : R32 l1) (hl2 : R64 l2) : Sx Γ (fun h => (h, ts)) (fun a s => mt Γ = (0, a, ((s, ts) : Wd))) 31 [(0, vA (mg Γ) l0), (1, vI l1), (2, vJ l2)] [] (c_X3_applyValue_31 l0 l1 l2) := by
  unfold c_X3_applyValue_31
  refine s_lload_n o dX3_applyValue_31 rfl 2 rfl ?_
  refine s_ldc2 (n := 17179869184) o dX3_applyValue_32 (lw_all_tbl q2227) rfl ?_
  refine s_cs (d := d + 4) (As := [vJ l2, vJ 17179869184]) (st := []) o (sc_X1_isSort (mg Γ) (d + 4) ts l2 17179869184 hl2 (r64 rfl)) mw_X1_isSort rfl (Or.inr ⟨_, q2183⟩) (lw_all_tbl q2184) wt_0 rfl dX3_applyValue_35 rfl (rs := fun r => [vI r]) (fun _ => rfl) (fun v1 hv1 => ?_)
  refine s_if_eq (tgt := 46) o dX3_applyValue_38 (by decide) (rZ (hv1 _ rfl)) ?_ ?_
  · refine s_iconst o dX3_applyValue_46 ?_
    exact sc_X3_applyValue_47 o l0 l1 l2 (-1) hl1 hl2 (r32 rfl)
  · refine s_lload_n o dX3_applyValue_41 rfl 2 rfl ?_
    refine s_l2i o dX3_applyValue_42 ?_
    refine s_goto (tgt := 47) o dX3_applyValue_43 (by decide) ?_
    exact sc_X3_applyValue_47 o l0 l1 l2 (l2i l2) hl1 hl2 (l2i_R _)
noncomputable def c_X3_applyValue (l0 : Int) (l1 : Int) : Mo CH Int :=
  bnd (isk 103 l0) fun _ =>
  bnd (c_X3_taken l0) fun v1 =>
  bnd (c_X1_isSort v1 8589934592) fun v2 =>
  if ¬ v2 = 0 then
    c_X3_applyValue_31 l0 l1 v1
  else
    bnd (c_X1_isSort v1 17179869184) fun v3 =>
    if ¬ v3 = 0 then
      c_X3_applyValue_31 l0 l1 v1
    else
      bnd (isk 103 l0) fun _ =>
      bnd (c_X3_fault l0 4) fun _ =>
      pr 0
theorem sc_X3_applyValue (g : gC) (d : Nat) (ts : TS) (l0 : Int) (l1 : Int) (hl1 : R32 l1) : SF g yX3_applyValue (Cond.code yX3_applyValue cX3_applyValue 11 (Option.none : Option Jvm.ClassFile.FieldType)) (Option.none : Option Jvm.ClassFile.FieldType) (d + 5) [vA g l0, vI l1] (fun h => (h, ts)) (c_X3_applyValue l0 l1) := by
  refine SF.of (lv := [(0, vA g l0), (1, vI l1)]) (by decide) (wt_A (wt_I wt_0)) rfl (by simp only [la_A, la_I, la_J, la_0]) (fun Γ hg hnm o => ?_)
  subst hg
  have o : Ok Γ "LazyForge$Machine" cX3_applyValue 11 (Option.none : Option Jvm.ClassFile.FieldType) (d + 5) := o
  unfold c_X3_applyValue
  refine s_aload_n o dX3_applyValue_0 rfl 0 rfl ?_
  refine s_cvC (d := d + 4) (As := []) (st := []) (c := 3) o (sc_X3_taken (mg Γ) (d + 4) ts l0) mw_X3_taken rfl (Or.inl (lw_all_tbl q2222)) rfl (lw_all_tbl q2224) (lw_all_tbl q2223) wt_0 rfl dX3_applyValue_1 rfl (rs := fun r => [vJ r]) (fun _ => rfl) (fun v1 hv1 => ?_)
  refine r_lstore_n o dX3_applyValue_4 rfl rfl ⟨(Nat.ne_of_beq_eq_false rfl), (Nat.ne_of_beq_eq_false rfl), (fun _ => (vA_cat (mg Γ) l0)), ⟨(Nat.ne_of_beq_eq_false rfl), (Nat.ne_of_beq_eq_false rfl), (fun _ => rfl), trivial⟩⟩ ?_
  refine s_lload_n o dX3_applyValue_5 rfl 0 rfl ?_
  refine s_ldc2 (n := 8589934592) o dX3_applyValue_6 (lw_all_tbl q2226) rfl ?_
  refine s_cs (d := d + 4) (As := [vJ v1, vJ 8589934592]) (st := []) o (sc_X1_isSort (mg Γ) (d + 4) ts v1 8589934592 (hv1 _ rfl) (r64 rfl)) mw_X1_isSort rfl (Or.inr ⟨_, q2183⟩) (lw_all_tbl q2184) wt_0 rfl dX3_applyValue_9 rfl (rs := fun r => [vI r]) (fun _ => rfl) (fun v2 hv2 => ?_)
  refine s_if_ne (tgt := 31) o dX3_applyValue_12 (by decide) (rZ (hv2 _ rfl)) ?_ ?_
  · refine r_to [(0, vA (mg Γ) l0), (1, vI l1), (2, vJ v1)] [1, 2, 0] rfl ?_
    exact sc_X3_applyValue_31 o l0 l1 v1 hl1 (hv1 _ rfl)
  · refine s_lload_n o dX3_applyValue_15 rfl 0 rfl ?_
    refine s_ldc2 (n := 17179869184) o dX3_applyValue_16 (lw_all_tbl q2227) rfl ?_
    refine s_cs (d := d + 4) (As := [vJ v1, vJ 17179869184]) (st := []) o (sc_X1_isSort (mg Γ) (d + 4) ts v1 17179869184 (hv1 _ rfl) (r64 rfl)) mw_X1_isSort rfl (Or.inr ⟨_, q2183⟩) (lw_all_tbl q2184) wt_0 rfl dX3_applyValue_19 rfl (rs := fun r => [vI r]) (fun _ => rfl) (fun v3 hv3 => ?_)
    refine s_if_ne (tgt := 31) o dX3_applyValue_22 (by decide) (rZ (hv3 _ rfl)) ?_ ?_
    · refine r_to [(0, vA (mg Γ) l0), (1, vI l1), (2, vJ v1)] [1, 2, 0] rfl ?_
      exact sc_X3_applyValue_31 o l0 l1 v1 hl1 (hv1 _ rfl)
    · refine s_aload_n o dX3_applyValue_25 rfl 1 rfl ?_
      refine s_iconst o dX3_applyValue_26 ?_
      refine s_cvC (d := d + 4) (As := [vI 4]) (st := []) (c := 3) o (sc_X3_fault (mg Γ) (d + 3) ts l0 4 (r32 rfl)) mw_X3_fault rfl (Or.inl (lw_all_tbl q2195)) rfl (lw_all_tbl q2197) (lw_all_tbl q2196) wt_0 rfl dX3_applyValue_27 rfl (rs := fun _ => []) (fun _ => rfl) (fun _ _ => ?_)
      exact s_vret o rfl dX3_applyValue_30 (fun _ hh => hh)
theorem dX8_step_0 : decode cX8_step 0 = .ok (.aload_n 1, 1) := by decide +kernel
theorem dX8_step_1 : decode cX8_step 1 = .ok (.iload_n 2, 1) := by decide +kernel
theorem dX8_step_2 : decode cX8_step 2 = .ok (.invokevirtual 7, 3) := by decide +kernel
theorem dX8_step_5 : decode cX8_step 5 = .ok (.return_, 1) := by decide +kernel
theorem mw_X8_step : MW yX8_step (Cond.code yX8_step cX8_step 3 (Option.none : Option Jvm.ClassFile.FieldType)) cX8_step 3 (Option.none : Option Jvm.ClassFile.FieldType) 2 := ⟨rfl, ⟨(lw_all_tbl q2217), rfl, (lw_all_tbl q170)⟩, rfl, ⟨by decide, by decide⟩, by decide +kernel⟩
noncomputable def c_X8_step (l0 : Int) (l1 : Int) (l2 : Int) : Mo CH Int :=
  bnd (isk 103 l1) fun _ =>
  bnd (c_X3_applyValue l1 l2) fun _ =>
  pr 0
theorem sc_X8_step (g : gC) (d : Nat) (ts : TS) (l0 : Int) (l1 : Int) (l2 : Int) (hl2 : R32 l2) : SF g yX8_step (Cond.code yX8_step cX8_step 3 (Option.none : Option Jvm.ClassFile.FieldType)) (Option.none : Option Jvm.ClassFile.FieldType) (d + 6) [vA g l0, vA g l1, vI l2] (fun h => (h, ts)) (c_X8_step l0 l1 l2) := by
  refine SF.of (lv := [(0, vA g l0), (1, vA g l1), (2, vI l2)]) (by decide) (wt_A (wt_A (wt_I wt_0))) rfl (by simp only [la_A, la_I, la_J, la_0]) (fun Γ hg hnm o => ?_)
  subst hg
  have o : Ok Γ "LazyForge$Applied" cX8_step 3 (Option.none : Option Jvm.ClassFile.FieldType) (d + 6) := o
  unfold c_X8_step
  refine s_aload_n o dX8_step_0 rfl 1 rfl ?_
  refine s_iload_n o dX8_step_1 rfl 2 rfl ?_
  refine s_cvC (d := d + 5) (As := [vI l2]) (st := []) (c := 3) o (sc_X3_applyValue (mg Γ) d ts l1 l2 hl2) mw_X3_applyValue rfl (Or.inl (lw_all_tbl q2218)) rfl (lw_all_tbl q2220) (lw_all_tbl q2219) wt_0 rfl dX8_step_2 rfl (rs := fun _ => []) (fun _ => rfl) (fun _ _ => ?_)
  exact s_vret o rfl dX8_step_5 (fun _ hh => hh)
theorem dX8_init_0 : decode cX8_init 0 = .ok (.aload_n 0, 1) := by decide +kernel
theorem dX8_init_1 : decode cX8_init 1 = .ok (.invokespecial 1, 3) := by decide +kernel
theorem dX8_init_4 : decode cX8_init 4 = .ok (.return_, 1) := by decide +kernel
theorem mw_X8_init : MW yX8_init (Cond.code yX8_init cX8_init 1 (Option.none : Option Jvm.ClassFile.FieldType)) cX8_init 1 (Option.none : Option Jvm.ClassFile.FieldType) 0 := ⟨rfl, ⟨(lw_all_tbl q294), rfl, (lw_all_tbl q170)⟩, rfl, ⟨by decide, by decide⟩, by decide +kernel⟩
noncomputable def c_X8_init (l0 : Int) : Mo CH Int :=
  bnd (c_X5_init l0) fun _ =>
  pr 0
theorem sc_X8_init (g : gC) (d : Nat) (ts : TS) (l0 : Int) (hl0 : 0 < l0) : SF g yX8_init (Cond.code yX8_init cX8_init 1 (Option.none : Option Jvm.ClassFile.FieldType)) (Option.none : Option Jvm.ClassFile.FieldType) (d + 3) [vA g l0] (fun h => (h, ts)) (c_X8_init l0) := by
  refine SF.of (lv := [(0, vA g l0)]) (by decide) (wt_A wt_0) rfl (by simp only [la_A, la_I, la_J, la_0]) (fun Γ hg hnm o => ?_)
  subst hg
  have o : Ok Γ "LazyForge$Applied" cX8_init 1 (Option.none : Option Jvm.ClassFile.FieldType) (d + 3) := o
  have hnm : (xMe (mx Γ)).name = "<init>" := hnm
  unfold c_X8_init
  refine s_aload_n o dX8_init_0 rfl 0 rfl ?_
  refine s_ci (d := d + 2) (As := []) (st := []) o (sc_X5_init (mg Γ) d ts l0 hl0) mw_X5_init rfl (Or.inr ⟨_, q295⟩) (lw_all_tbl q249) rfl hl0 wt_0 rfl dX8_init_1 rfl (fun _ => ?_)
  exact s_vret o rfl dX8_init_4 (fun _ hh => hh)
theorem dX3_leave_0 : decode cX3_leave 0 = .ok (.aload_n 0, 1) := by decide +kernel
theorem dX3_leave_1 : decode cX3_leave 1 = .ok (.dup, 1) := by decide +kernel
theorem dX3_leave_2 : decode cX3_leave 2 = .ok (.getfield 166, 3) := by decide +kernel
theorem dX3_leave_5 : decode cX3_leave 5 = .ok (.iconst 1, 1) := by decide +kernel
theorem dX3_leave_6 : decode cX3_leave 6 = .ok (.isub, 1) := by decide +kernel
theorem dX3_leave_7 : decode cX3_leave 7 = .ok (.putfield 166, 3) := by decide +kernel
theorem dX3_leave_10 : decode cX3_leave 10 = .ok (.aload_n 0, 1) := by decide +kernel
theorem dX3_leave_11 : decode cX3_leave 11 = .ok (.aload_n 0, 1) := by decide +kernel
theorem dX3_leave_12 : decode cX3_leave 12 = .ok (.getfield 98, 3) := by decide +kernel
theorem dX3_leave_15 : decode cX3_leave 15 = .ok (.putfield 169, 3) := by decide +kernel
theorem dX3_leave_18 : decode cX3_leave 18 = .ok (.aload_n 0, 1) := by decide +kernel
theorem dX3_leave_19 : decode cX3_leave 19 = .ok (.aload_n 0, 1) := by decide +kernel
theorem dX3_leave_20 : decode cX3_leave 20 = .ok (.getfield 62, 3) := by decide +kernel
theorem dX3_leave_23 : decode cX3_leave 23 = .ok (.aload_n 0, 1) := by decide +kernel
theorem dX3_leave_24 : decode cX3_leave 24 = .ok (.getfield 166, 3) := by decide +kernel
theorem dX3_leave_27 : decode cX3_leave 27 = .ok (.iaload, 1) := by decide +kernel
theorem dX3_leave_28 : decode cX3_leave 28 = .ok (.putfield 98, 3) := by decide +kernel
theorem dX3_leave_31 : decode cX3_leave 31 = .ok (.return_, 1) := by decide +kernel
theorem mw_X3_leave : MW yX3_leave (Cond.code yX3_leave cX3_leave 1 (Option.none : Option Jvm.ClassFile.FieldType)) cX3_leave 1 (Option.none : Option Jvm.ClassFile.FieldType) 0 := ⟨rfl, ⟨(lw_all_tbl q2400), rfl, (lw_all_tbl q165)⟩, rfl, ⟨by decide, by decide⟩, by decide +kernel⟩
noncomputable def c_X3_leave (l0 : Int) : Mo CH Int :=
  bnd (gf [103] 15 l0) fun v1 =>
  bnd (pf [103] 15 l0 (w32 (v1 - 1))) fun _ =>
  bnd (gf [103] 12 l0) fun v2 =>
  bnd (pf [103] 13 l0 v2) fun _ =>
  bnd (gf [103] 14 l0) fun v3 =>
  bnd (gf [103] 15 l0) fun v4 =>
  bnd (ald 0 v3 v4) fun v5 =>
  bnd (pf [103] 12 l0 v5) fun _ =>
  pr 0
theorem sc_X3_leave (g : gC) (d : Nat) (ts : TS) (l0 : Int) : SF g yX3_leave (Cond.code yX3_leave cX3_leave 1 (Option.none : Option Jvm.ClassFile.FieldType)) (Option.none : Option Jvm.ClassFile.FieldType) (d + 0) [vA g l0] (fun h => (h, ts)) (c_X3_leave l0) := by
  refine SF.of (lv := [(0, vA g l0)]) (by decide) (wt_A wt_0) rfl (by simp only [la_A, la_I, la_J, la_0]) (fun Γ hg hnm o => ?_)
  subst hg
  have o : Ok Γ "LazyForge$Machine" cX3_leave 1 (Option.none : Option Jvm.ClassFile.FieldType) (d + 0) := o
  unfold c_X3_leave
  refine s_aload_n o dX3_leave_0 rfl 0 rfl ?_
  refine s_dup o dX3_leave_1 (vA_cat (mg Γ) l0) ?_
  refine r_getf vI rfl o cf_X3_frames (Or.inl (lw_all_tbl q344)) dX3_leave_2 (fun v1 hv1 => ?_)
  refine s_iconst o dX3_leave_5 ?_
  refine s_isub o dX3_leave_6 ?_
  refine r_putf vI rfl o cf_X3_frames (Or.inl (lw_all_tbl q344)) dX3_leave_7 (Or.inl rfl) (w32_R _) ty_int ?_
  refine s_aload_n o dX3_leave_10 rfl 0 rfl ?_
  refine s_aload_n o dX3_leave_11 rfl 0 rfl ?_
  refine r_getf vI rfl o cf_X3_base (Or.inl (lw_all_tbl q341)) dX3_leave_12 (fun v2 hv2 => ?_)
  refine r_putf vI rfl o cf_X3_top (Or.inl (lw_all_tbl q342)) dX3_leave_15 (Or.inl rfl) hv2 ty_int ?_
  refine s_aload_n o dX3_leave_18 rfl 0 rfl ?_
  refine s_aload_n o dX3_leave_19 rfl 0 rfl ?_
  refine r_getf (vA (mg Γ)) rfl o cf_X3_bases (Or.inl (lw_all_tbl q343)) dX3_leave_20 (fun v3 hv3 => ?_)
  refine s_aload_n o dX3_leave_23 rfl 0 rfl ?_
  refine r_getf vI rfl o cf_X3_frames (Or.inl (lw_all_tbl q344)) dX3_leave_24 (fun v4 hv4 => ?_)
  refine r_iald o hv4 dX3_leave_27 (fun v5 hv5 => ?_)
  refine r_putf vI rfl o cf_X3_base (Or.inl (lw_all_tbl q341)) dX3_leave_28 (Or.inl rfl) hv5 ty_int ?_
  exact s_vret o rfl dX3_leave_31 (fun _ hh => hh)
theorem dX7_step_0 : decode cX7_step 0 = .ok (.aload_n 1, 1) := by decide +kernel
theorem dX7_step_1 : decode cX7_step 1 = .ok (.invokevirtual 7, 3) := by decide +kernel
theorem dX7_step_4 : decode cX7_step 4 = .ok (.return_, 1) := by decide +kernel
theorem mw_X7_step : MW yX7_step (Cond.code yX7_step cX7_step 3 (Option.none : Option Jvm.ClassFile.FieldType)) cX7_step 3 (Option.none : Option Jvm.ClassFile.FieldType) 2 := ⟨rfl, ⟨(lw_all_tbl q2396), rfl, (lw_all_tbl q169)⟩, rfl, ⟨by decide, by decide⟩, by decide +kernel⟩
noncomputable def c_X7_step (l0 : Int) (l1 : Int) (l2 : Int) : Mo CH Int :=
  bnd (isk 103 l1) fun _ =>
  bnd (c_X3_leave l1) fun _ =>
  pr 0
theorem sc_X7_step (g : gC) (d : Nat) (ts : TS) (l0 : Int) (l1 : Int) (l2 : Int) (hl2 : R32 l2) : SF g yX7_step (Cond.code yX7_step cX7_step 3 (Option.none : Option Jvm.ClassFile.FieldType)) (Option.none : Option Jvm.ClassFile.FieldType) (d + 1) [vA g l0, vA g l1, vI l2] (fun h => (h, ts)) (c_X7_step l0 l1 l2) := by
  refine SF.of (lv := [(0, vA g l0), (1, vA g l1), (2, vI l2)]) (by decide) (wt_A (wt_A (wt_I wt_0))) rfl (by simp only [la_A, la_I, la_J, la_0]) (fun Γ hg hnm o => ?_)
  subst hg
  have o : Ok Γ "LazyForge$Leave" cX7_step 3 (Option.none : Option Jvm.ClassFile.FieldType) (d + 1) := o
  unfold c_X7_step
  refine s_aload_n o dX7_step_0 rfl 1 rfl ?_
  refine s_cvC (d := d + 0) (As := []) (st := []) (c := 3) o (sc_X3_leave (mg Γ) d ts l1) mw_X3_leave rfl (Or.inl (lw_all_tbl q2397)) rfl (lw_all_tbl q2399) (lw_all_tbl q2398) wt_0 rfl dX7_step_1 rfl (rs := fun _ => []) (fun _ => rfl) (fun _ _ => ?_)
  exact s_vret o rfl dX7_step_4 (fun _ hh => hh)
theorem dX7_init_0 : decode cX7_init 0 = .ok (.aload_n 0, 1) := by decide +kernel
theorem dX7_init_1 : decode cX7_init 1 = .ok (.invokespecial 1, 3) := by decide +kernel
theorem dX7_init_4 : decode cX7_init 4 = .ok (.return_, 1) := by decide +kernel
theorem mw_X7_init : MW yX7_init (Cond.code yX7_init cX7_init 1 (Option.none : Option Jvm.ClassFile.FieldType)) cX7_init 1 (Option.none : Option Jvm.ClassFile.FieldType) 0 := ⟨rfl, ⟨(lw_all_tbl q282), rfl, (lw_all_tbl q169)⟩, rfl, ⟨by decide, by decide⟩, by decide +kernel⟩
noncomputable def c_X7_init (l0 : Int) : Mo CH Int :=
  bnd (c_X5_init l0) fun _ =>
  pr 0
theorem sc_X7_init (g : gC) (d : Nat) (ts : TS) (l0 : Int) (hl0 : 0 < l0) : SF g yX7_init (Cond.code yX7_init cX7_init 1 (Option.none : Option Jvm.ClassFile.FieldType)) (Option.none : Option Jvm.ClassFile.FieldType) (d + 3) [vA g l0] (fun h => (h, ts)) (c_X7_init l0) := by
  refine SF.of (lv := [(0, vA g l0)]) (by decide) (wt_A wt_0) rfl (by simp only [la_A, la_I, la_J, la_0]) (fun Γ hg hnm o => ?_)
  subst hg
  have o : Ok Γ "LazyForge$Leave" cX7_init 1 (Option.none : Option Jvm.ClassFile.FieldType) (d + 3) := o
  have hnm : (xMe (mx Γ)).name = "<init>" := hnm
  unfold c_X7_init
  refine s_aload_n o dX7_init_0 rfl 0 rfl ?_
  refine s_ci (d := d + 2) (As := []) (st := []) o (sc_X5_init (mg Γ) d ts l0 hl0) mw_X5_init rfl (Or.inr ⟨_, q283⟩) (lw_all_tbl q249) rfl hl0 wt_0 rfl dX7_init_1 rfl (fun _ => ?_)
  exact s_vret o rfl dX7_init_4 (fun _ hh => hh)
theorem dX3_update_0 : decode cX3_update 0 = .ok (.aload_n 0, 1) := by decide +kernel
theorem dX3_update_1 : decode cX3_update 1 = .ok (.dup, 1) := by decide +kernel
theorem dX3_update_2 : decode cX3_update 2 = .ok (.getfield 218, 3) := by decide +kernel
theorem dX3_update_5 : decode cX3_update 5 = .ok (.iconst 1, 1) := by decide +kernel
theorem dX3_update_6 : decode cX3_update 6 = .ok (.iadd, 1) := by decide +kernel
theorem dX3_update_7 : decode cX3_update 7 = .ok (.putfield 218, 3) := by decide +kernel
theorem dX3_update_10 : decode cX3_update 10 = .ok (.aload_n 0, 1) := by decide +kernel
theorem dX3_update_11 : decode cX3_update 11 = .ok (.getfield 42, 3) := by decide +kernel
theorem dX3_update_14 : decode cX3_update 14 = .ok (.iload_n 1, 1) := by decide +kernel
theorem dX3_update_15 : decode cX3_update 15 = .ok (.aload_n 0, 1) := by decide +kernel
theorem dX3_update_16 : decode cX3_update 16 = .ok (.getfield 56, 3) := by decide +kernel
theorem dX3_update_19 : decode cX3_update 19 = .ok (.aload_n 0, 1) := by decide +kernel
theorem dX3_update_20 : decode cX3_update 20 = .ok (.getfield 85, 3) := by decide +kernel
theorem dX3_update_23 : decode cX3_update 23 = .ok (.iconst 1, 1) := by decide +kernel
theorem dX3_update_24 : decode cX3_update 24 = .ok (.isub, 1) := by decide +kernel
theorem dX3_update_25 : decode cX3_update 25 = .ok (.laload, 1) := by decide +kernel
theorem dX3_update_26 : decode cX3_update 26 = .ok (.lastore, 1) := by decide +kernel
theorem dX3_update_27 : decode cX3_update 27 = .ok (.return_, 1) := by decide +kernel
theorem mw_X3_update : MW yX3_update (Cond.code yX3_update cX3_update 2 (Option.none : Option Jvm.ClassFile.FieldType)) cX3_update 2 (Option.none : Option Jvm.ClassFile.FieldType) 1 := ⟨rfl, ⟨(lw_all_tbl q2461), rfl, (lw_all_tbl q165)⟩, rfl, ⟨by decide, by decide⟩, by decide +kernel⟩
noncomputable def c_X3_update (l0 : Int) (l1 : Int) : Mo CH Int :=
  bnd (gf [103] 29 l0) fun v1 =>
  bnd (pf [103] 29 l0 (w32 (v1 + 1))) fun _ =>
  bnd (gf [103] 5 l0) fun v2 =>
  bnd (gf [103] 9 l0) fun v3 =>
  bnd (gf [103] 10 l0) fun v4 =>
  bnd (ald 1 v3 (w32 (v4 - 1))) fun v5 =>
  bnd (ast 1 v2 l1 v5) fun _ =>
  pr 0
theorem sc_X3_update (g : gC) (d : Nat) (ts : TS) (l0 : Int) (l1 : Int) (hl1 : R32 l1) : SF g yX3_update (Cond.code yX3_update cX3_update 2 (Option.none : Option Jvm.ClassFile.FieldType)) (Option.none : Option Jvm.ClassFile.FieldType) (d + 0) [vA g l0, vI l1] (fun h => (h, ts)) (c_X3_update l0 l1) := by
  refine SF.of (lv := [(0, vA g l0), (1, vI l1)]) (by decide) (wt_A (wt_I wt_0)) rfl (by simp only [la_A, la_I, la_J, la_0]) (fun Γ hg hnm o => ?_)
  subst hg
  have o : Ok Γ "LazyForge$Machine" cX3_update 2 (Option.none : Option Jvm.ClassFile.FieldType) (d + 0) := o
  unfold c_X3_update
  refine s_aload_n o dX3_update_0 rfl 0 rfl ?_
  refine s_dup o dX3_update_1 (vA_cat (mg Γ) l0) ?_
  refine r_getf vI rfl o cf_X3_updates (Or.inl (lw_all_tbl q370)) dX3_update_2 (fun v1 hv1 => ?_)
  refine s_iconst o dX3_update_5 ?_
  refine s_iadd o dX3_update_6 ?_
  refine r_putf vI rfl o cf_X3_updates (Or.inl (lw_all_tbl q370)) dX3_update_7 (Or.inl rfl) (w32_R _) ty_int ?_
  refine s_aload_n o dX3_update_10 rfl 0 rfl ?_
  refine r_getf (vA (mg Γ)) rfl o cf_X3_cells (Or.inl (lw_all_tbl q333)) dX3_update_11 (fun v2 hv2 => ?_)
  refine s_iload_n o dX3_update_14 rfl 1 rfl ?_
  refine s_aload_n o dX3_update_15 rfl 0 rfl ?_
  refine r_getf (vA (mg Γ)) rfl o cf_X3_values (Or.inl (lw_all_tbl q338)) dX3_update_16 (fun v3 hv3 => ?_)
  refine s_aload_n o dX3_update_19 rfl 0 rfl ?_
  refine r_getf vI rfl o cf_X3_has (Or.inl (lw_all_tbl q339)) dX3_update_20 (fun v4 hv4 => ?_)
  refine s_iconst o dX3_update_23 ?_
  refine s_isub o dX3_update_24 ?_
  refine r_lald o (w32_R _) dX3_update_25 (fun v5 hv5 => ?_)
  refine r_last o hl1 hv5 dX3_update_26 ?_
  exact s_vret o rfl dX3_update_27 (fun _ hh => hh)
theorem dX6_step_0 : decode cX6_step 0 = .ok (.aload_n 1, 1) := by decide +kernel
theorem dX6_step_1 : decode cX6_step 1 = .ok (.iload_n 2, 1) := by decide +kernel
theorem dX6_step_2 : decode cX6_step 2 = .ok (.invokevirtual 7, 3) := by decide +kernel
theorem dX6_step_5 : decode cX6_step 5 = .ok (.return_, 1) := by decide +kernel
theorem mw_X6_step : MW yX6_step (Cond.code yX6_step cX6_step 3 (Option.none : Option Jvm.ClassFile.FieldType)) cX6_step 3 (Option.none : Option Jvm.ClassFile.FieldType) 2 := ⟨rfl, ⟨(lw_all_tbl q2457), rfl, (lw_all_tbl q168)⟩, rfl, ⟨by decide, by decide⟩, by decide +kernel⟩
noncomputable def c_X6_step (l0 : Int) (l1 : Int) (l2 : Int) : Mo CH Int :=
  bnd (isk 103 l1) fun _ =>
  bnd (c_X3_update l1 l2) fun _ =>
  pr 0
theorem sc_X6_step (g : gC) (d : Nat) (ts : TS) (l0 : Int) (l1 : Int) (l2 : Int) (hl2 : R32 l2) : SF g yX6_step (Cond.code yX6_step cX6_step 3 (Option.none : Option Jvm.ClassFile.FieldType)) (Option.none : Option Jvm.ClassFile.FieldType) (d + 1) [vA g l0, vA g l1, vI l2] (fun h => (h, ts)) (c_X6_step l0 l1 l2) := by
  refine SF.of (lv := [(0, vA g l0), (1, vA g l1), (2, vI l2)]) (by decide) (wt_A (wt_A (wt_I wt_0))) rfl (by simp only [la_A, la_I, la_J, la_0]) (fun Γ hg hnm o => ?_)
  subst hg
  have o : Ok Γ "LazyForge$Update" cX6_step 3 (Option.none : Option Jvm.ClassFile.FieldType) (d + 1) := o
  unfold c_X6_step
  refine s_aload_n o dX6_step_0 rfl 1 rfl ?_
  refine s_iload_n o dX6_step_1 rfl 2 rfl ?_
  refine s_cvC (d := d + 0) (As := [vI l2]) (st := []) (c := 3) o (sc_X3_update (mg Γ) d ts l1 l2 hl2) mw_X3_update rfl (Or.inl (lw_all_tbl q2458)) rfl (lw_all_tbl q2460) (lw_all_tbl q2459) wt_0 rfl dX6_step_2 rfl (rs := fun _ => []) (fun _ => rfl) (fun _ _ => ?_)
  exact s_vret o rfl dX6_step_5 (fun _ hh => hh)
theorem dX6_init_0 : decode cX6_init 0 = .ok (.aload_n 0, 1) := by decide +kernel
theorem dX6_init_1 : decode cX6_init 1 = .ok (.invokespecial 1, 3) := by decide +kernel
theorem dX6_init_4 : decode cX6_init 4 = .ok (.return_, 1) := by decide +kernel
theorem mw_X6_init : MW yX6_init (Cond.code yX6_init cX6_init 1 (Option.none : Option Jvm.ClassFile.FieldType)) cX6_init 1 (Option.none : Option Jvm.ClassFile.FieldType) 0 := ⟨rfl, ⟨(lw_all_tbl q247), rfl, (lw_all_tbl q168)⟩, rfl, ⟨by decide, by decide⟩, by decide +kernel⟩
noncomputable def c_X6_init (l0 : Int) : Mo CH Int :=
  bnd (c_X5_init l0) fun _ =>
  pr 0
theorem sc_X6_init (g : gC) (d : Nat) (ts : TS) (l0 : Int) (hl0 : 0 < l0) : SF g yX6_init (Cond.code yX6_init cX6_init 1 (Option.none : Option Jvm.ClassFile.FieldType)) (Option.none : Option Jvm.ClassFile.FieldType) (d + 3) [vA g l0] (fun h => (h, ts)) (c_X6_init l0) := by
  refine SF.of (lv := [(0, vA g l0)]) (by decide) (wt_A wt_0) rfl (by simp only [la_A, la_I, la_J, la_0]) (fun Γ hg hnm o => ?_)
  subst hg
  have o : Ok Γ "LazyForge$Update" cX6_init 1 (Option.none : Option Jvm.ClassFile.FieldType) (d + 3) := o
  have hnm : (xMe (mx Γ)).name = "<init>" := hnm
  unfold c_X6_init
  refine s_aload_n o dX6_init_0 rfl 0 rfl ?_
  refine s_ci (d := d + 2) (As := []) (st := []) o (sc_X5_init (mg Γ) d ts l0 hl0) mw_X5_init rfl (Or.inr ⟨_, q248⟩) (lw_all_tbl q249) rfl hl0 wt_0 rfl dX6_init_1 rfl (fun _ => ?_)
  exact s_vret o rfl dX6_init_4 (fun _ hh => hh)
theorem dX5_keep_0 : decode cX5_keep 0 = .ok (.ldc2_w 9, 3) := by decide +kernel
theorem dX5_keep_3 : decode cX5_keep 3 = .ok (.lreturn, 1) := by decide +kernel
theorem mw_X5_keep : MW yX5_keep (Cond.code yX5_keep cX5_keep 2 (Option.some Jvm.ClassFile.FieldType.long)) cX5_keep 2 (Option.some Jvm.ClassFile.FieldType.long) 1 := ⟨rfl, ⟨(lw_all_tbl q2252), rfl, (lw_all_tbl q167)⟩, rfl, ⟨by decide, by decide⟩, by decide +kernel⟩
noncomputable def c_X5_keep (l0 : Int) (l1 : Int) : Mo CH Int :=
  pr (-1)
theorem sc_X5_keep (g : gC) (d : Nat) (ts : TS) (l0 : Int) (l1 : Int) : SF g yX5_keep (Cond.code yX5_keep cX5_keep 2 (Option.some Jvm.ClassFile.FieldType.long)) (Option.some Jvm.ClassFile.FieldType.long) (d + 0) [vA g l0, vA g l1] (fun h => (h, ts)) (c_X5_keep l0 l1) := by
  refine SF.of (lv := [(0, vA g l0), (1, vA g l1)]) (by decide) (wt_A (wt_A wt_0)) rfl (by simp only [la_A, la_I, la_J, la_0]) (fun Γ hg hnm o => ?_)
  subst hg
  have o : Ok Γ "LazyForge$Task" cX5_keep 2 (Option.some Jvm.ClassFile.FieldType.long) (d + 0) := o
  unfold c_X5_keep
  refine s_ldc2 (n := -1) o dX5_keep_0 (lw_all_tbl q2253) rfl ?_
  exact s_lret o rfl (r64 rfl) dX5_keep_3 (fun _ hh => hh)
theorem dX5_write_0 : decode cX5_write 0 = .ok (.return_, 1) := by decide +kernel
theorem mw_X5_write : MW yX5_write (Cond.code yX5_write cX5_write 2 (Option.none : Option Jvm.ClassFile.FieldType)) cX5_write 2 (Option.none : Option Jvm.ClassFile.FieldType) 1 := ⟨rfl, ⟨(lw_all_tbl q1977), rfl, (lw_all_tbl q167)⟩, rfl, ⟨by decide, by decide⟩, by decide +kernel⟩
noncomputable def c_X5_write (l0 : Int) (l1 : Int) : Mo CH Int :=
  pr 0
theorem sc_X5_write (g : gC) (d : Nat) (ts : TS) (l0 : Int) (l1 : Int) : SF g yX5_write (Cond.code yX5_write cX5_write 2 (Option.none : Option Jvm.ClassFile.FieldType)) (Option.none : Option Jvm.ClassFile.FieldType) (d + 0) [vA g l0, vA g l1] (fun h => (h, ts)) (c_X5_write l0 l1) := by
  refine SF.of (lv := [(0, vA g l0), (1, vA g l1)]) (by decide) (wt_A (wt_A wt_0)) rfl (by simp only [la_A, la_I, la_J, la_0]) (fun Γ hg hnm o => ?_)
  subst hg
  have o : Ok Γ "LazyForge$Task" cX5_write 2 (Option.none : Option Jvm.ClassFile.FieldType) (d + 0) := o
  unfold c_X5_write
  exact s_vret o rfl dX5_write_0 (fun _ hh => hh)
theorem dX5_uses_0 : decode cX5_uses 0 = .ok (.return_, 1) := by decide +kernel
theorem mw_X5_uses : MW yX5_uses (Cond.code yX5_uses cX5_uses 2 (Option.none : Option Jvm.ClassFile.FieldType)) cX5_uses 2 (Option.none : Option Jvm.ClassFile.FieldType) 1 := ⟨rfl, ⟨(lw_all_tbl q1769), rfl, (lw_all_tbl q167)⟩, rfl, ⟨by decide, by decide⟩, by decide +kernel⟩
noncomputable def c_X5_uses (l0 : Int) (l1 : Int) : Mo CH Int :=
  pr 0
theorem sc_X5_uses (g : gC) (d : Nat) (ts : TS) (l0 : Int) (l1 : Int) : SF g yX5_uses (Cond.code yX5_uses cX5_uses 2 (Option.none : Option Jvm.ClassFile.FieldType)) (Option.none : Option Jvm.ClassFile.FieldType) (d + 0) [vA g l0, vA g l1] (fun h => (h, ts)) (c_X5_uses l0 l1) := by
  refine SF.of (lv := [(0, vA g l0), (1, vA g l1)]) (by decide) (wt_A (wt_A wt_0)) rfl (by simp only [la_A, la_I, la_J, la_0]) (fun Γ hg hnm o => ?_)
  subst hg
  have o : Ok Γ "LazyForge$Task" cX5_uses 2 (Option.none : Option Jvm.ClassFile.FieldType) (d + 0) := o
  unfold c_X5_uses
  exact s_vret o rfl dX5_uses_0 (fun _ hh => hh)
theorem dX5_prepare_0 : decode cX5_prepare 0 = .ok (.return_, 1) := by decide +kernel
theorem mw_X5_prepare : MW yX5_prepare (Cond.code yX5_prepare cX5_prepare 3 (Option.none : Option Jvm.ClassFile.FieldType)) cX5_prepare 3 (Option.none : Option Jvm.ClassFile.FieldType) 2 := ⟨rfl, ⟨(lw_all_tbl q1748), rfl, (lw_all_tbl q167)⟩, rfl, ⟨by decide, by decide⟩, by decide +kernel⟩
noncomputable def c_X5_prepare (l0 : Int) (l1 : Int) (l2 : Int) : Mo CH Int :=
  pr 0
theorem sc_X5_prepare (g : gC) (d : Nat) (ts : TS) (l0 : Int) (l1 : Int) (l2 : Int) : SF g yX5_prepare (Cond.code yX5_prepare cX5_prepare 3 (Option.none : Option Jvm.ClassFile.FieldType)) (Option.none : Option Jvm.ClassFile.FieldType) (d + 0) [vA g l0, vA g l1, vA g l2] (fun h => (h, ts)) (c_X5_prepare l0 l1 l2) := by
  refine SF.of (lv := [(0, vA g l0), (1, vA g l1), (2, vA g l2)]) (by decide) (wt_A (wt_A (wt_A wt_0))) rfl (by simp only [la_A, la_I, la_J, la_0]) (fun Γ hg hnm o => ?_)
  subst hg
  have o : Ok Γ "LazyForge$Task" cX5_prepare 3 (Option.none : Option Jvm.ClassFile.FieldType) (d + 0) := o
  unfold c_X5_prepare
  exact s_vret o rfl dX5_prepare_0 (fun _ hh => hh)
theorem dX5_bit_0 : decode cX5_bit 0 = .ok (.iconst 1, 1) := by decide +kernel
theorem dX5_bit_1 : decode cX5_bit 1 = .ok (.ireturn, 1) := by decide +kernel
theorem mw_X5_bit : MW yX5_bit (Cond.code yX5_bit cX5_bit 2 (Option.some Jvm.ClassFile.FieldType.boolean)) cX5_bit 2 (Option.some Jvm.ClassFile.FieldType.boolean) 1 := ⟨rfl, ⟨(lw_all_tbl q1698), rfl, (lw_all_tbl q167)⟩, rfl, ⟨by decide, by decide⟩, by decide +kernel⟩
noncomputable def c_X5_bit (l0 : Int) (l1 : Int) : Mo CH Int :=
  pr 1
theorem sc_X5_bit (g : gC) (d : Nat) (ts : TS) (l0 : Int) (l1 : Int) : SF g yX5_bit (Cond.code yX5_bit cX5_bit 2 (Option.some Jvm.ClassFile.FieldType.boolean)) (Option.some Jvm.ClassFile.FieldType.boolean) (d + 0) [vA g l0, vA g l1] (fun h => (h, ts)) (c_X5_bit l0 l1) := by
  refine SF.of (lv := [(0, vA g l0), (1, vA g l1)]) (by decide) (wt_A (wt_A wt_0)) rfl (by simp only [la_A, la_I, la_J, la_0]) (fun Γ hg hnm o => ?_)
  subst hg
  have o : Ok Γ "LazyForge$Task" cX5_bit 2 (Option.some Jvm.ClassFile.FieldType.boolean) (d + 0) := o
  unfold c_X5_bit
  refine s_iconst o dX5_bit_0 ?_
  exact s_iret o rfl i_boolean (Or.inr rfl) dX5_bit_1 (fun _ hh => hh)
theorem dX4_bound_0 : decode cX4_bound 0 = .ok (.return_, 1) := by decide +kernel
theorem mw_X4_bound : MW yX4_bound (Cond.code yX4_bound cX4_bound 2 (Option.none : Option Jvm.ClassFile.FieldType)) cX4_bound 2 (Option.none : Option Jvm.ClassFile.FieldType) 1 := ⟨rfl, ⟨(lw_all_tbl q1838), rfl, (lw_all_tbl q166)⟩, rfl, ⟨by decide, by decide⟩, by decide +kernel⟩
noncomputable def c_X4_bound (l0 : Int) (l1 : Int) : Mo CH Int :=
  pr 0
theorem sc_X4_bound (g : gC) (d : Nat) (ts : TS) (l0 : Int) (l1 : Int) : SF g yX4_bound (Cond.code yX4_bound cX4_bound 2 (Option.none : Option Jvm.ClassFile.FieldType)) (Option.none : Option Jvm.ClassFile.FieldType) (d + 0) [vA g l0, vA g l1] (fun h => (h, ts)) (c_X4_bound l0 l1) := by
  refine SF.of (lv := [(0, vA g l0), (1, vA g l1)]) (by decide) (wt_A (wt_A wt_0)) rfl (by simp only [la_A, la_I, la_J, la_0]) (fun Γ hg hnm o => ?_)
  subst hg
  have o : Ok Γ "LazyForge$Part" cX4_bound 2 (Option.none : Option Jvm.ClassFile.FieldType) (d + 0) := o
  unfold c_X4_bound
  exact s_vret o rfl dX4_bound_0 (fun _ hh => hh)
theorem dJ14_newLength_0 : decode cJ14_newLength 0 = .ok (.iload_n 0, 1) := by decide +kernel
theorem dJ14_newLength_1 : decode cJ14_newLength 1 = .ok (.iload_n 1, 1) := by decide +kernel
theorem dJ14_newLength_2 : decode cJ14_newLength 2 = .ok (.iload_n 2, 1) := by decide +kernel
theorem dJ14_newLength_3 : decode cJ14_newLength 3 = .ok (.invokestatic 194, 3) := by decide +kernel
theorem dJ14_newLength_6 : decode cJ14_newLength 6 = .ok (.iadd, 1) := by decide +kernel
theorem dJ14_newLength_7 : decode cJ14_newLength 7 = .ok (.istore_n 3, 1) := by decide +kernel
theorem dJ14_newLength_8 : decode cJ14_newLength 8 = .ok (.iconst 0, 1) := by decide +kernel
theorem dJ14_newLength_9 : decode cJ14_newLength 9 = .ok (.iload_n 3, 1) := by decide +kernel
theorem dJ14_newLength_10 : decode cJ14_newLength 10 = .ok (.if_icmp .ge 11, 3) := by decide +kernel
theorem dJ14_newLength_13 : decode cJ14_newLength 13 = .ok (.iload_n 3, 1) := by decide +kernel
theorem dJ14_newLength_14 : decode cJ14_newLength 14 = .ok (.ldc 200, 2) := by decide +kernel
theorem dJ14_newLength_16 : decode cJ14_newLength 16 = .ok (.if_icmp .gt 5, 3) := by decide +kernel
theorem dJ14_newLength_19 : decode cJ14_newLength 19 = .ok (.iload_n 3, 1) := by decide +kernel
theorem dJ14_newLength_20 : decode cJ14_newLength 20 = .ok (.ireturn, 1) := by decide +kernel
theorem dJ14_newLength_21 : decode cJ14_newLength 21 = .ok (.iload_n 0, 1) := by decide +kernel
theorem dJ14_newLength_22 : decode cJ14_newLength 22 = .ok (.iload_n 1, 1) := by decide +kernel
theorem dJ14_newLength_23 : decode cJ14_newLength 23 = .ok (.invokestatic 201, 3) := by decide +kernel
theorem dJ14_newLength_26 : decode cJ14_newLength 26 = .ok (.ireturn, 1) := by decide +kernel
theorem mw_J14_newLength : MW yJ14_newLength (Cond.code yJ14_newLength cJ14_newLength 4 (Option.some Jvm.ClassFile.FieldType.int)) cJ14_newLength 4 (Option.some Jvm.ClassFile.FieldType.int) 3 := ⟨rfl, ⟨(lw_all_tbl q1211), rfl, (lw_all_tbl q194)⟩, rfl, ⟨by decide, by decide⟩, by decide +kernel⟩
noncomputable def c_J14_newLength_21  (l0 : Int) (l1 : Int) : Mo CH Int :=
  no
theorem sc_J14_newLength_21 {Γ : Gm} {ts : TS} {d : Nat} (o : Ok Γ "jdk/internal/util/ArraysSupport" cJ14_newLength 4 (Option.some Jvm.ClassFile.FieldType.int) (d + 1))   (l0 : Int) (l1 : Int) (hl0 : R32 l0) (hl1 : R32 l1) : Sx Γ (fun h => (h, ts)) (fun a s => mt Γ = (0, a, ((s, ts) : Wd))) 21 [(0, vI l0), (1, vI l1)] [] (c_J14_newLength_21 l0 l1) := by
  unfold c_J14_newLength_21
  refine s_iload_n o dJ14_newLength_21 rfl 0 rfl ?_
  refine s_iload_n o dJ14_newLength_22 rfl 1 rfl ?_
  exact s_no
noncomputable def c_J14_newLength (l0 : Int) (l1 : Int) (l2 : Int) : Mo CH Int :=
  bnd (c_J9_max l1 l2) fun v1 =>
  if (w32 (l0 + v1)) ≤ 0 then
    c_J14_newLength_21 l0 l1
  else
    if 2147483639 < (w32 (l0 + v1)) then
      c_J14_newLength_21 l0 l1
    else
      pr (w32 (l0 + v1))
theorem sc_J14_newLength (g : gC) (d : Nat) (ts : TS) (l0 : Int) (l1 : Int) (l2 : Int) (hl0 : R32 l0) (hl1 : R32 l1) (hl2 : R32 l2) : SF g yJ14_newLength (Cond.code yJ14_newLength cJ14_newLength 4 (Option.some Jvm.ClassFile.FieldType.int)) (Option.some Jvm.ClassFile.FieldType.int) (d + 1) [vI l0, vI l1, vI l2] (fun h => (h, ts)) (c_J14_newLength l0 l1 l2) := by
  refine SF.of (lv := [(0, vI l0), (1, vI l1), (2, vI l2)]) (by decide) (wt_I (wt_I (wt_I wt_0))) rfl (by simp only [la_A, la_I, la_J, la_0]) (fun Γ hg hnm o => ?_)
  subst hg
  have o : Ok Γ "jdk/internal/util/ArraysSupport" cJ14_newLength 4 (Option.some Jvm.ClassFile.FieldType.int) (d + 1) := o
  unfold c_J14_newLength
  refine s_iload_n o dJ14_newLength_0 rfl 0 rfl ?_
  refine s_iload_n o dJ14_newLength_1 rfl 1 rfl ?_
  refine s_iload_n o dJ14_newLength_2 rfl 2 rfl ?_
  refine s_cs (d := d + 0) (As := [vI l1, vI l2]) (st := [vI l0]) o (sc_J9_max (mg Γ) d ts l1 l2 hl1 hl2) mw_J9_max rfl (Or.inl (lw_all_tbl q1212)) (lw_all_tbl q790) (wt_I wt_0) rfl dJ14_newLength_3 rfl (rs := fun r => [vI r, vI l0]) (fun _ => rfl) (fun v1 hv1 => ?_)
  refine s_iadd o dJ14_newLength_6 ?_
  refine r_istore_n o dJ14_newLength_7 rfl rfl ⟨(Nat.ne_of_beq_eq_false rfl), (fun _ => rfl), ⟨(Nat.ne_of_beq_eq_false rfl), (fun _ => rfl), ⟨(Nat.ne_of_beq_eq_false rfl), (fun _ => rfl), trivial⟩⟩⟩ ?_
  refine s_iconst o dJ14_newLength_8 ?_
  refine s_iload_n o dJ14_newLength_9 rfl 0 rfl ?_
  refine s_icmp_ge (tgt := 21) o dJ14_newLength_10 (by decide) (r32 rfl) (w32_R _) ?_ ?_
  · refine r_to [(0, vI l0), (1, vI l1)] [1, 2] rfl ?_
    exact sc_J14_newLength_21 o l0 l1 hl0 hl1
  · refine s_iload_n o dJ14_newLength_13 rfl 0 rfl ?_
    refine s_ldc (n := 2147483639) o dJ14_newLength_14 (lw_all_tbl q1213) rfl ?_
    refine s_icmp_gt (tgt := 21) o dJ14_newLength_16 (by decide) (w32_R _) (r32 rfl) ?_ ?_
    · refine r_to [(0, vI l0), (1, vI l1)] [1, 2] rfl ?_
      exact sc_J14_newLength_21 o l0 l1 hl0 hl1
    · refine s_iload_n o dJ14_newLength_19 rfl 0 rfl ?_
      exact s_iret o rfl i_int (w32_R _) dJ14_newLength_20 (fun _ hh => hh)
theorem dJ9_min_0 : decode cJ9_min 0 = .ok (.iload_n 0, 1) := by decide +kernel
theorem dJ9_min_1 : decode cJ9_min 1 = .ok (.iload_n 1, 1) := by decide +kernel
theorem dJ9_min_2 : decode cJ9_min 2 = .ok (.if_icmp .gt 7, 3) := by decide +kernel
theorem dJ9_min_5 : decode cJ9_min 5 = .ok (.iload_n 0, 1) := by decide +kernel
theorem dJ9_min_6 : decode cJ9_min 6 = .ok (.goto 4, 3) := by decide +kernel
theorem dJ9_min_9 : decode cJ9_min 9 = .ok (.iload_n 1, 1) := by decide +kernel
theorem dJ9_min_10 : decode cJ9_min 10 = .ok (.ireturn, 1) := by decide +kernel
theorem mw_J9_min : MW yJ9_min (Cond.code yJ9_min cJ9_min 2 (Option.some Jvm.ClassFile.FieldType.int)) cJ9_min 2 (Option.some Jvm.ClassFile.FieldType.int) 2 := ⟨rfl, ⟨(lw_all_tbl q794), rfl, (lw_all_tbl q185)⟩, rfl, ⟨by decide, by decide⟩, by decide +kernel⟩
noncomputable def c_J9_min (l0 : Int) (l1 : Int) : Mo CH Int :=
  if l1 < l0 then
    pr l1
  else
    pr l0
theorem sc_J9_min (g : gC) (d : Nat) (ts : TS) (l0 : Int) (l1 : Int) (hl0 : R32 l0) (hl1 : R32 l1) : SF g yJ9_min (Cond.code yJ9_min cJ9_min 2 (Option.some Jvm.ClassFile.FieldType.int)) (Option.some Jvm.ClassFile.FieldType.int) (d + 0) [vI l0, vI l1] (fun h => (h, ts)) (c_J9_min l0 l1) := by
  refine SF.of (lv := [(0, vI l0), (1, vI l1)]) (by decide +kernel) (wt_I (wt_I wt_0)) rfl (by simp only [la_A, la_I, la_J, la_0]) (fun Γ hg hnm o => ?_)
  subst hg
  have o : Ok Γ "java/lang/Math" cJ9_min 2 (Option.some Jvm.ClassFile.FieldType.int) (d + 0) := o
  unfold c_J9_min
  refine s_iload_n o dJ9_min_0 rfl 0 rfl ?_
  refine s_iload_n o dJ9_min_1 rfl 1 rfl ?_
  refine s_icmp_gt (tgt := 9) o dJ9_min_2 (by decide) hl0 hl1 ?_ ?_
  · refine s_iload_n o dJ9_min_9 rfl 1 rfl ?_
    exact s_iret o rfl i_int hl1 dJ9_min_10 (fun _ hh => hh)
  · refine s_iload_n o dJ9_min_5 rfl 0 rfl ?_
    refine s_goto (tgt := 10) o dJ9_min_6 (by decide) ?_
    exact s_iret o rfl i_int hl0 dJ9_min_10 (fun _ hh => hh)
theorem dJ15_copyOf_2_0 : decode cJ15_copyOf_2 0 = .ok (.aload_n 2, 1) := by decide +kernel
theorem dJ15_copyOf_2_1 : decode cJ15_copyOf_2 1 = .ok (.ldc 110, 2) := by decide +kernel
theorem dJ15_copyOf_2_3 : decode cJ15_copyOf_2 3 = .ok (.if_acmp .ne 10, 3) := by decide +kernel
theorem dJ15_copyOf_2_6 : decode cJ15_copyOf_2 6 = .ok (.iload_n 1, 1) := by decide +kernel
theorem dJ15_copyOf_2_7 : decode cJ15_copyOf_2 7 = .ok (.anewarray 2, 3) := by decide +kernel
theorem dJ15_copyOf_2_10 : decode cJ15_copyOf_2 10 = .ok (.goto 14, 3) := by decide +kernel
theorem dJ15_copyOf_2_13 : decode cJ15_copyOf_2 13 = .ok (.aload_n 2, 1) := by decide +kernel
theorem dJ15_copyOf_2_14 : decode cJ15_copyOf_2 14 = .ok (.invokevirtual 90, 3) := by decide +kernel
theorem dJ15_copyOf_2_17 : decode cJ15_copyOf_2 17 = .ok (.iload_n 1, 1) := by decide +kernel
theorem dJ15_copyOf_2_18 : decode cJ15_copyOf_2 18 = .ok (.invokestatic 95, 3) := by decide +kernel
theorem dJ15_copyOf_2_21 : decode cJ15_copyOf_2 21 = .ok (.checkcast 110, 3) := by decide +kernel
theorem dJ15_copyOf_2_24 : decode cJ15_copyOf_2 24 = .ok (.astore_n 3, 1) := by decide +kernel
theorem dJ15_copyOf_2_25 : decode cJ15_copyOf_2 25 = .ok (.aload_n 0, 1) := by decide +kernel
theorem dJ15_copyOf_2_26 : decode cJ15_copyOf_2 26 = .ok (.iconst 0, 1) := by decide +kernel
theorem dJ15_copyOf_2_27 : decode cJ15_copyOf_2 27 = .ok (.aload_n 3, 1) := by decide +kernel
theorem dJ15_copyOf_2_28 : decode cJ15_copyOf_2 28 = .ok (.iconst 0, 1) := by decide +kernel
theorem dJ15_copyOf_2_29 : decode cJ15_copyOf_2 29 = .ok (.aload_n 0, 1) := by decide +kernel
theorem dJ15_copyOf_2_30 : decode cJ15_copyOf_2 30 = .ok (.arraylength, 1) := by decide +kernel
theorem dJ15_copyOf_2_31 : decode cJ15_copyOf_2 31 = .ok (.iload_n 1, 1) := by decide +kernel
theorem dJ15_copyOf_2_32 : decode cJ15_copyOf_2 32 = .ok (.invokestatic 304, 3) := by decide +kernel
theorem dJ15_copyOf_2_35 : decode cJ15_copyOf_2 35 = .ok (.invokestatic 150, 3) := by decide +kernel
theorem dJ15_copyOf_2_38 : decode cJ15_copyOf_2 38 = .ok (.aload_n 3, 1) := by decide +kernel
theorem dJ15_copyOf_2_39 : decode cJ15_copyOf_2 39 = .ok (.areturn, 1) := by decide +kernel
theorem mw_J15_copyOf_2 : MW yJ15_copyOf_2 (Cond.code yJ15_copyOf_2 cJ15_copyOf_2 4 (Option.some (Jvm.ClassFile.FieldType.array (Jvm.ClassFile.FieldType.object "java/lang/Object")))) cJ15_copyOf_2 4 (Option.some (Jvm.ClassFile.FieldType.array (Jvm.ClassFile.FieldType.object "java/lang/Object"))) 3 := ⟨rfl, ⟨(lw_all_tbl q1256), rfl, (lw_all_tbl q195)⟩, rfl, ⟨by decide, by decide⟩, by decide +kernel⟩
noncomputable def c_J15_copyOf_2 (l0 : Int) (l1 : Int) (l2 : Int) : Mo CH Int :=
  (fun s => if l2 = (-202) then (bnd (newa 10 l1) fun v1 =>
  bnd (lnO l0) fun v2 =>
  bnd (c_J9_min v2 l1) fun v3 =>
  bnd (acp 10 l0 0 v1 0 v3) fun _ =>
  pr v1) s else none)
theorem sc_J15_copyOf_2 (g : gC) (d : Nat) (ts : TS) (l0 : Int) (l1 : Int) (l2 : Int) (hl1 : R32 l1) : SF g yJ15_copyOf_2 (Cond.code yJ15_copyOf_2 cJ15_copyOf_2 4 (Option.some (Jvm.ClassFile.FieldType.array (Jvm.ClassFile.FieldType.object "java/lang/Object")))) (Option.some (Jvm.ClassFile.FieldType.array (Jvm.ClassFile.FieldType.object "java/lang/Object"))) (d + 1) [vA g l0, vI l1, vA g l2] (fun h => (h, ts)) (c_J15_copyOf_2 l0 l1 l2) := by
  refine SF.of (lv := [(0, vA g l0), (1, vI l1), (2, vA g l2)]) (by decide) (wt_A (wt_I (wt_A wt_0))) rfl (by simp only [la_A, la_I, la_J, la_0]) (fun Γ hg hnm o => ?_)
  subst hg
  have o : Ok Γ "java/util/Arrays" cJ15_copyOf_2 4 (Option.some (Jvm.ClassFile.FieldType.array (Jvm.ClassFile.FieldType.object "java/lang/Object"))) (d + 1) := o
  unfold c_J15_copyOf_2
  refine s_aload_n o dJ15_copyOf_2_0 rfl 2 rfl ?_
  refine s_ldcM o (lw_all_tbl q1257) dJ15_copyOf_2_1 ?_
  refine s_acmpS_ne (tgt := 13) o dJ15_copyOf_2_3 (by decide) ?_
  refine s_iload_n o dJ15_copyOf_2_6 rfl 1 rfl ?_
  refine s_anew (kd := 10) o (by decide) (Or.inl rfl) (lw_all_tbl q1259) ao_10 hl1 dJ15_copyOf_2_7 (fun v1 hv1 => ?_)
  refine s_goto (tgt := 24) o dJ15_copyOf_2_10 (by decide) ?_
  refine r_astore_n o dJ15_copyOf_2_24 rfl rfl ⟨(Nat.ne_of_beq_eq_false rfl), (fun _ => (vA_cat (mg Γ) l0)), ⟨(Nat.ne_of_beq_eq_false rfl), (fun _ => rfl), ⟨(Nat.ne_of_beq_eq_false rfl), (fun _ => (vA_cat (mg Γ) l2)), trivial⟩⟩⟩ ?_
  refine s_aload_n o dJ15_copyOf_2_25 rfl 1 rfl ?_
  refine s_iconst o dJ15_copyOf_2_26 ?_
  refine s_aload_n o dJ15_copyOf_2_27 rfl 0 rfl ?_
  refine s_iconst o dJ15_copyOf_2_28 ?_
  refine s_aload_n o dJ15_copyOf_2_29 rfl 1 rfl ?_
  refine s_lnO o dJ15_copyOf_2_30 (fun v2 hv2 => ?_)
  refine s_iload_n o dJ15_copyOf_2_31 rfl 2 rfl ?_
  refine s_cs (d := d + 0) (As := [vI v2, vI l1]) (st := [vI 0, vA (mg Γ) v1, vI 0, vA (mg Γ) l0]) o (sc_J9_min (mg Γ) d ts v2 l1 (rN hv2) hl1) mw_J9_min rfl (Or.inl (lw_all_tbl q1260)) (lw_all_tbl q793) (wt_I (wt_A (wt_I (wt_A wt_0)))) rfl dJ15_copyOf_2_32 rfl (rs := fun r => [vI r, vI 0, vA (mg Γ) v1, vI 0, vA (mg Γ) l0]) (fun _ => rfl) (fun v3 hv3 => ?_)
  refine s_acp (kd := 10) (d := d + 0) o (by decide) (fun _ => as_10 o) (lw_all_tbl q1261) (r32 rfl) (r32 rfl) (hv3 _ rfl) wt_0 rfl dJ15_copyOf_2_35 (lw_all_tbl q481) (lw_all_tbl q480) (lw_all_tbl q179) ?_
  refine s_aload_n o dJ15_copyOf_2_38 rfl 0 rfl ?_
  exact s_aret o rfl (Or.inr ⟨_, rfl⟩) dJ15_copyOf_2_39 (fun _ hh => hh)
theorem dJ15_copyOf_0 : decode cJ15_copyOf 0 = .ok (.aload_n 0, 1) := by decide +kernel
theorem dJ15_copyOf_1 : decode cJ15_copyOf 1 = .ok (.iload_n 1, 1) := by decide +kernel
theorem dJ15_copyOf_2 : decode cJ15_copyOf 2 = .ok (.aload_n 0, 1) := by decide +kernel
theorem dJ15_copyOf_3 : decode cJ15_copyOf 3 = .ok (.invokevirtual 86, 3) := by decide +kernel
theorem dJ15_copyOf_6 : decode cJ15_copyOf 6 = .ok (.invokestatic 300, 3) := by decide +kernel
theorem dJ15_copyOf_9 : decode cJ15_copyOf 9 = .ok (.areturn, 1) := by decide +kernel
theorem mw_J15_copyOf : MW yJ15_copyOf (Cond.code yJ15_copyOf cJ15_copyOf 2 (Option.some (Jvm.ClassFile.FieldType.array (Jvm.ClassFile.FieldType.object "java/lang/Object")))) cJ15_copyOf 2 (Option.some (Jvm.ClassFile.FieldType.array (Jvm.ClassFile.FieldType.object "java/lang/Object"))) 2 := ⟨rfl, ⟨(lw_all_tbl q1219), rfl, (lw_all_tbl q195)⟩, rfl, ⟨by decide, by decide⟩, by decide +kernel⟩
noncomputable def c_J15_copyOf (l0 : Int) (l1 : Int) : Mo CH Int :=
  bnd (isk 10 l0) fun _ =>
  bnd (c_J15_copyOf_2 l0 l1 (-202)) fun v1 =>
  pr v1
theorem sc_J15_copyOf (g : gC) (d : Nat) (ts : TS) (l0 : Int) (l1 : Int) (hl1 : R32 l1) : SF g yJ15_copyOf (Cond.code yJ15_copyOf cJ15_copyOf 2 (Option.some (Jvm.ClassFile.FieldType.array (Jvm.ClassFile.FieldType.object "java/lang/Object")))) (Option.some (Jvm.ClassFile.FieldType.array (Jvm.ClassFile.FieldType.object "java/lang/Object"))) (d + 2) [vA g l0, vI l1] (fun h => (h, ts)) (c_J15_copyOf l0 l1) := by
  refine SF.of (lv := [(0, vA g l0), (1, vI l1)]) (by decide) (wt_A (wt_I wt_0)) rfl (by simp only [la_A, la_I, la_J, la_0]) (fun Γ hg hnm o => ?_)
  subst hg
  have o : Ok Γ "java/util/Arrays" cJ15_copyOf 2 (Option.some (Jvm.ClassFile.FieldType.array (Jvm.ClassFile.FieldType.object "java/lang/Object"))) (d + 2) := o
  unfold c_J15_copyOf
  refine s_aload_n o dJ15_copyOf_0 rfl 0 rfl ?_
  refine s_iload_n o dJ15_copyOf_1 rfl 1 rfl ?_
  refine s_aload_n o dJ15_copyOf_2 rfl 0 rfl ?_
  refine s_getC (d := d + 1) o (lw_all_tbl q1220) q3490 (lw_all_tbl q3489) (lw_all_tbl q1221) (lw_all_tbl q1253) (wt_I (wt_A wt_0)) rfl dJ15_copyOf_3 ?_
  refine s_cs (d := d + 1) (As := [vA (mg Γ) l0, vI l1, vA (mg Γ) (-202)]) (st := []) o (sc_J15_copyOf_2 (mg Γ) d ts l0 l1 (-202) hl1) mw_J15_copyOf_2 rfl (Or.inl (lw_all_tbl q1254)) (lw_all_tbl q1255) wt_0 rfl dJ15_copyOf_6 rfl (rs := fun r => [vA (mg Γ) r]) (fun _ => rfl) (fun v1 hv1 => ?_)
  exact s_aret o rfl (Or.inr ⟨_, rfl⟩) dJ15_copyOf_9 (fun _ hh => hh)
theorem dJ13_grow_2_0 : decode cJ13_grow_2 0 = .ok (.aload_n 0, 1) := by decide +kernel
theorem dJ13_grow_2_1 : decode cJ13_grow_2 1 = .ok (.getfield 9, 3) := by decide +kernel
theorem dJ13_grow_2_4 : decode cJ13_grow_2 4 = .ok (.arraylength, 1) := by decide +kernel
theorem dJ13_grow_2_5 : decode cJ13_grow_2 5 = .ok (.istore_n 2, 1) := by decide +kernel
theorem dJ13_grow_2_6 : decode cJ13_grow_2 6 = .ok (.iload_n 2, 1) := by decide +kernel
theorem dJ13_grow_2_7 : decode cJ13_grow_2 7 = .ok (.ifCond .gt 13, 3) := by decide +kernel
theorem dJ13_grow_2_10 : decode cJ13_grow_2 10 = .ok (.aload_n 0, 1) := by decide +kernel
theorem dJ13_grow_2_11 : decode cJ13_grow_2 11 = .ok (.getfield 9, 3) := by decide +kernel
theorem dJ13_grow_2_14 : decode cJ13_grow_2 14 = .ok (.getstatic 39, 3) := by decide +kernel
theorem dJ13_grow_2_17 : decode cJ13_grow_2 17 = .ok (.if_acmp .eq 28, 3) := by decide +kernel
theorem dJ13_grow_2_20 : decode cJ13_grow_2 20 = .ok (.iload_n 2, 1) := by decide +kernel
theorem dJ13_grow_2_21 : decode cJ13_grow_2 21 = .ok (.iload_n 1, 1) := by decide +kernel
theorem dJ13_grow_2_22 : decode cJ13_grow_2 22 = .ok (.iload_n 2, 1) := by decide +kernel
theorem dJ13_grow_2_23 : decode cJ13_grow_2 23 = .ok (.isub, 1) := by decide +kernel
theorem dJ13_grow_2_24 : decode cJ13_grow_2 24 = .ok (.iload_n 2, 1) := by decide +kernel
theorem dJ13_grow_2_25 : decode cJ13_grow_2 25 = .ok (.iconst 1, 1) := by decide +kernel
theorem dJ13_grow_2_26 : decode cJ13_grow_2 26 = .ok (.ishr, 1) := by decide +kernel
theorem dJ13_grow_2_27 : decode cJ13_grow_2 27 = .ok (.invokestatic 73, 3) := by decide +kernel
theorem dJ13_grow_2_30 : decode cJ13_grow_2 30 = .ok (.istore_n 3, 1) := by decide +kernel
theorem dJ13_grow_2_31 : decode cJ13_grow_2 31 = .ok (.aload_n 0, 1) := by decide +kernel
theorem dJ13_grow_2_32 : decode cJ13_grow_2 32 = .ok (.aload_n 0, 1) := by decide +kernel
theorem dJ13_grow_2_33 : decode cJ13_grow_2 33 = .ok (.getfield 9, 3) := by decide +kernel
theorem dJ13_grow_2_36 : decode cJ13_grow_2 36 = .ok (.iload_n 3, 1) := by decide +kernel
theorem dJ13_grow_2_37 : decode cJ13_grow_2 37 = .ok (.invokestatic 66, 3) := by decide +kernel
theorem dJ13_grow_2_40 : decode cJ13_grow_2 40 = .ok (.dup_x1, 1) := by decide +kernel
theorem dJ13_grow_2_41 : decode cJ13_grow_2 41 = .ok (.putfield 9, 3) := by decide +kernel
theorem dJ13_grow_2_44 : decode cJ13_grow_2 44 = .ok (.areturn, 1) := by decide +kernel
theorem dJ13_grow_2_45 : decode cJ13_grow_2 45 = .ok (.aload_n 0, 1) := by decide +kernel
theorem dJ13_grow_2_46 : decode cJ13_grow_2 46 = .ok (.bipush 10, 2) := by decide +kernel
theorem dJ13_grow_2_48 : decode cJ13_grow_2 48 = .ok (.iload_n 1, 1) := by decide +kernel
theorem dJ13_grow_2_49 : decode cJ13_grow_2 49 = .ok (.invokestatic 79, 3) := by decide +kernel
theorem dJ13_grow_2_52 : decode cJ13_grow_2 52 = .ok (.anewarray 7, 3) := by decide +kernel
theorem dJ13_grow_2_55 : decode cJ13_grow_2 55 = .ok (.dup_x1, 1) := by decide +kernel
theorem dJ13_grow_2_56 : decode cJ13_grow_2 56 = .ok (.putfield 9, 3) := by decide +kernel
theorem dJ13_grow_2_59 : decode cJ13_grow_2 59 = .ok (.areturn, 1) := by decide +kernel
theorem mw_J13_grow_2 : MW yJ13_grow_2 (Cond.code yJ13_grow_2 cJ13_grow_2 4 (Option.some (Jvm.ClassFile.FieldType.array (Jvm.ClassFile.FieldType.object "java/lang/Object")))) cJ13_grow_2 4 (Option.some (Jvm.ClassFile.FieldType.array (Jvm.ClassFile.FieldType.object "java/lang/Object"))) 1 := ⟨rfl, ⟨(lw_all_tbl q1208), rfl, (lw_all_tbl q192)⟩, rfl, ⟨by decide, by decide⟩, by decide +kernel⟩
noncomputable def c_J13_grow_2_20  (l0 : Int) (l1 : Int) (l2 : Int) : Mo CH Int :=
  bnd (c_J14_newLength l2 (w32 (l1 - l2)) (ishr l2 1)) fun v1 =>
  bnd (gf [127] 1 l0) fun v2 =>
  bnd (c_J15_copyOf v2 v1) fun v3 =>
  bnd (pf [127] 1 l0 v3) fun _ =>
  pr v3
theorem sc_J13_grow_2_20 {Γ : Gm} {ts : TS} {d : Nat} (o : Ok Γ "java/util/ArrayList" cJ13_grow_2 4 (Option.some (Jvm.ClassFile.FieldType.array (Jvm.ClassFile.FieldType.object "java/lang/Object"))) (d + 3))   (l0 : Int) (l1 : Int) (l2 : Int) (hl1 : R32 l1) (hl2 : R32 l2) : Sx Γ (fun h => (h, ts)) (fun a s => mt Γ = (0, a, ((s, ts) : Wd))) 20 [(0, vA (mg Γ) l0), (1, vI l1), (2, vI l2)] [] (c_J13_grow_2_20 l0 l1 l2) := by
  unfold c_J13_grow_2_20
  refine s_iload_n o dJ13_grow_2_20 rfl 2 rfl ?_
  refine s_iload_n o dJ13_grow_2_21 rfl 1 rfl ?_
  refine s_iload_n o dJ13_grow_2_22 rfl 2 rfl ?_
  refine s_isub o dJ13_grow_2_23 ?_
  refine s_iload_n o dJ13_grow_2_24 rfl 2 rfl ?_
  refine s_iconst o dJ13_grow_2_25 ?_
  refine s_ishr o dJ13_grow_2_26 ?_
  refine s_cs (d := d + 2) (As := [vI l2, vI (w32 (l1 - l2)), vI (ishr l2 1)]) (st := []) o (sc_J14_newLength (mg Γ) (d + 1) ts l2 (w32 (l1 - l2)) (ishr l2 1) hl2 (w32_R _) (ishr_R _ _)) mw_J14_newLength rfl (Or.inl (lw_all_tbl q1209)) (lw_all_tbl q1210) wt_0 rfl dJ13_grow_2_27 rfl (rs := fun r => [vI r]) (fun _ => rfl) (fun v1 hv1 => ?_)
  refine r_istore_n o dJ13_grow_2_30 rfl rfl ⟨(Nat.ne_of_beq_eq_false rfl), (fun _ => (vA_cat (mg Γ) l0)), ⟨(Nat.ne_of_beq_eq_false rfl), (fun _ => rfl), ⟨(Nat.ne_of_beq_eq_false rfl), (fun _ => rfl), trivial⟩⟩⟩ ?_
  refine s_aload_n o dJ13_grow_2_31 rfl 1 rfl ?_
  refine s_aload_n o dJ13_grow_2_32 rfl 1 rfl ?_
  refine r_getf (vA (mg Γ)) rfl o cf_J13_elementData (Or.inl (lw_all_tbl q1044)) dJ13_grow_2_33 (fun v2 hv2 => ?_)
  refine s_iload_n o dJ13_grow_2_36 rfl 0 rfl ?_
  refine s_cs (d := d + 2) (As := [vA (mg Γ) v2, vI v1]) (st := [vA (mg Γ) l0]) o (sc_J15_copyOf (mg Γ) d ts v2 v1 (hv1 _ rfl)) mw_J15_copyOf rfl (Or.inl (lw_all_tbl q1217)) (lw_all_tbl q1218) (wt_A wt_0) rfl dJ13_grow_2_37 rfl (rs := fun r => [vA (mg Γ) r, vA (mg Γ) l0]) (fun _ => rfl) (fun v3 hv3 => ?_)
  refine s_dup_x1 o dJ13_grow_2_40 (vA_cat (mg Γ) v3) (vA_cat (mg Γ) l0) ?_
  refine r_putf (vA (mg Γ)) rfl o cf_J13_elementData (Or.inl (lw_all_tbl q1044)) dJ13_grow_2_41 (Or.inl rfl) trivial (ty_array _) ?_
  exact s_aret o rfl (Or.inr ⟨_, rfl⟩) dJ13_grow_2_44 (fun _ hh => hh)
noncomputable def c_J13_grow_2 (l0 : Int) (l1 : Int) : Mo CH Int :=
  bnd (gf [127] 1 l0) fun v1 =>
  bnd (lnO v1) fun v2 =>
  if 0 < v2 then
    c_J13_grow_2_20 l0 l1 v2
  else
    bnd (gf [127] 1 l0) fun v3 =>
    ckr v3 (-200) (if v3 = (-200) then
      bnd (c_J9_max 10 l1) fun v4 =>
      bnd (newa 10 v4) fun v5 =>
      bnd (pf [127] 1 l0 v5) fun _ =>
      pr v5
    else
      c_J13_grow_2_20 l0 l1 v2)
theorem sc_J13_grow_2 (g : gC) (d : Nat) (ts : TS) (l0 : Int) (l1 : Int) (hl1 : R32 l1) : SF g yJ13_grow_2 (Cond.code yJ13_grow_2 cJ13_grow_2 4 (Option.some (Jvm.ClassFile.FieldType.array (Jvm.ClassFile.FieldType.object "java/lang/Object")))) (Option.some (Jvm.ClassFile.FieldType.array (Jvm.ClassFile.FieldType.object "java/lang/Object"))) (d + 3) [vA g l0, vI l1] (fun h => (h, ts)) (c_J13_grow_2 l0 l1) := by
  refine SF.of (lv := [(0, vA g l0), (1, vI l1)]) (by decide) (wt_A (wt_I wt_0)) rfl (by simp only [la_A, la_I, la_J, la_0]) (fun Γ hg hnm o => ?_)
  subst hg
  have o : Ok Γ "java/util/ArrayList" cJ13_grow_2 4 (Option.some (Jvm.ClassFile.FieldType.array (Jvm.ClassFile.FieldType.object "java/lang/Object"))) (d + 3) := o
  unfold c_J13_grow_2
  refine s_aload_n o dJ13_grow_2_0 rfl 0 rfl ?_
  refine r_getf (vA (mg Γ)) rfl o cf_J13_elementData (Or.inl (lw_all_tbl q1044)) dJ13_grow_2_1 (fun v1 hv1 => ?_)
  refine s_lnO o dJ13_grow_2_4 (fun v2 hv2 => ?_)
  refine r_istore_n o dJ13_grow_2_5 rfl rfl ⟨(Nat.ne_of_beq_eq_false rfl), (fun _ => (vA_cat (mg Γ) l0)), ⟨(Nat.ne_of_beq_eq_false rfl), (fun _ => rfl), trivial⟩⟩ ?_
  refine s_iload_n o dJ13_grow_2_6 rfl 0 rfl ?_
  refine s_if_gt (tgt := 20) o dJ13_grow_2_7 (by decide) (rN hv2) ?_ ?_
  · refine r_to [(0, vA (mg Γ) l0), (1, vI l1), (2, vI v2)] [1, 2, 0] rfl ?_
    exact sc_J13_grow_2_20 o l0 l1 v2 hl1 (rN hv2)
  · refine s_aload_n o dJ13_grow_2_10 rfl 1 rfl ?_
    refine r_getf (vA (mg Γ)) rfl o cf_J13_elementData (Or.inl (lw_all_tbl q1044)) dJ13_grow_2_11 (fun v3 hv3 => ?_)
    refine s_gsE o (lw_all_tbl q1042) dJ13_grow_2_14 ?_
    refine s_acmp_eq (tgt := 45) o dJ13_grow_2_17 (by decide) ?_ ?_
    · refine s_aload_n o dJ13_grow_2_45 rfl 1 rfl ?_
      refine s_bipush o dJ13_grow_2_46 rfl ?_
      refine s_iload_n o dJ13_grow_2_48 rfl 2 rfl ?_
      refine s_cs (d := d + 2) (As := [vI 10, vI l1]) (st := [vA (mg Γ) l0]) o (sc_J9_max (mg Γ) (d + 2) ts 10 l1 (r32 rfl) hl1) mw_J9_max rfl (Or.inl (lw_all_tbl q1262)) (lw_all_tbl q790) (wt_A wt_0) rfl dJ13_grow_2_49 rfl (rs := fun r => [vI r, vA (mg Γ) l0]) (fun _ => rfl) (fun v4 hv4 => ?_)
      refine s_anew (kd := 10) o (by decide) (Or.inl rfl) (lw_all_tbl q1263) ao_10 (hv4 _ rfl) dJ13_grow_2_52 (fun v5 hv5 => ?_)
      refine s_dup_x1 o dJ13_grow_2_55 (vA_cat (mg Γ) v5) (vA_cat (mg Γ) l0) ?_
      refine r_putf (vA (mg Γ)) rfl o cf_J13_elementData (Or.inl (lw_all_tbl q1044)) dJ13_grow_2_56 (Or.inl rfl) trivial (ty_array _) ?_
      exact s_aret o rfl (Or.inr ⟨_, rfl⟩) dJ13_grow_2_59 (fun _ hh => hh)
    · refine r_to [(0, vA (mg Γ) l0), (1, vI l1), (2, vI v2)] [1, 2, 0] rfl ?_
      exact sc_J13_grow_2_20 o l0 l1 v2 hl1 (rN hv2)
theorem dJ13_grow_0 : decode cJ13_grow 0 = .ok (.aload_n 0, 1) := by decide +kernel
theorem dJ13_grow_1 : decode cJ13_grow 1 = .ok (.aload_n 0, 1) := by decide +kernel
theorem dJ13_grow_2 : decode cJ13_grow 2 = .ok (.getfield 48, 3) := by decide +kernel
theorem dJ13_grow_5 : decode cJ13_grow 5 = .ok (.iconst 1, 1) := by decide +kernel
theorem dJ13_grow_6 : decode cJ13_grow 6 = .ok (.iadd, 1) := by decide +kernel
theorem dJ13_grow_7 : decode cJ13_grow 7 = .ok (.invokevirtual 69, 3) := by decide +kernel
theorem dJ13_grow_10 : decode cJ13_grow 10 = .ok (.areturn, 1) := by decide +kernel
theorem mw_J13_grow : MW yJ13_grow (Cond.code yJ13_grow cJ13_grow 1 (Option.some (Jvm.ClassFile.FieldType.array (Jvm.ClassFile.FieldType.object "java/lang/Object")))) cJ13_grow 1 (Option.some (Jvm.ClassFile.FieldType.array (Jvm.ClassFile.FieldType.object "java/lang/Object"))) 0 := ⟨rfl, ⟨(lw_all_tbl q1204), rfl, (lw_all_tbl q192)⟩, rfl, ⟨by decide, by decide⟩, by decide +kernel⟩
noncomputable def c_J13_grow (l0 : Int) : Mo CH Int :=
  bnd (gf [127] 2 l0) fun v1 =>
  bnd (isk 127 l0) fun _ =>
  bnd (c_J13_grow_2 l0 (w32 (v1 + 1))) fun v2 =>
  pr v2
theorem sc_J13_grow (g : gC) (d : Nat) (ts : TS) (l0 : Int) : SF g yJ13_grow (Cond.code yJ13_grow cJ13_grow 1 (Option.some (Jvm.ClassFile.FieldType.array (Jvm.ClassFile.FieldType.object "java/lang/Object")))) (Option.some (Jvm.ClassFile.FieldType.array (Jvm.ClassFile.FieldType.object "java/lang/Object"))) (d + 4) [vA g l0] (fun h => (h, ts)) (c_J13_grow l0) := by
  refine SF.of (lv := [(0, vA g l0)]) (by decide) (wt_A wt_0) rfl (by simp only [la_A, la_I, la_J, la_0]) (fun Γ hg hnm o => ?_)
  subst hg
  have o : Ok Γ "java/util/ArrayList" cJ13_grow 1 (Option.some (Jvm.ClassFile.FieldType.array (Jvm.ClassFile.FieldType.object "java/lang/Object"))) (d + 4) := o
  unfold c_J13_grow
  refine s_aload_n o dJ13_grow_0 rfl 0 rfl ?_
  refine s_aload_n o dJ13_grow_1 rfl 0 rfl ?_
  refine r_getf vI rfl o cf_J13_size (Or.inl (lw_all_tbl q1045)) dJ13_grow_2 (fun v1 hv1 => ?_)
  refine s_iconst o dJ13_grow_5 ?_
  refine s_iadd o dJ13_grow_6 ?_
  refine s_cvC (d := d + 3) (As := [vI (w32 (v1 + 1))]) (st := []) (c := 27) o (sc_J13_grow_2 (mg Γ) d ts l0 (w32 (v1 + 1)) (w32_R _)) mw_J13_grow_2 rfl (Or.inl (lw_all_tbl q1205)) rfl (lw_all_tbl qs35) (lw_all_tbl q1207) wt_0 rfl dJ13_grow_7 rfl (rs := fun r => [vA (mg Γ) r]) (fun _ => rfl) (fun v2 hv2 => ?_)
  exact s_aret o rfl (Or.inr ⟨_, rfl⟩) dJ13_grow_10 (fun _ hh => hh)
theorem dJ13_add_2_0 : decode cJ13_add_2 0 = .ok (.iload_n 3, 1) := by decide +kernel
theorem dJ13_add_2_1 : decode cJ13_add_2 1 = .ok (.aload_n 2, 1) := by decide +kernel
theorem dJ13_add_2_2 : decode cJ13_add_2 2 = .ok (.arraylength, 1) := by decide +kernel
theorem dJ13_add_2_3 : decode cJ13_add_2 3 = .ok (.if_icmp .ne 8, 3) := by decide +kernel
theorem dJ13_add_2_6 : decode cJ13_add_2 6 = .ok (.aload_n 0, 1) := by decide +kernel
theorem dJ13_add_2_7 : decode cJ13_add_2 7 = .ok (.invokevirtual 129, 3) := by decide +kernel
theorem dJ13_add_2_10 : decode cJ13_add_2 10 = .ok (.astore_n 2, 1) := by decide +kernel
theorem dJ13_add_2_11 : decode cJ13_add_2 11 = .ok (.aload_n 2, 1) := by decide +kernel
theorem dJ13_add_2_12 : decode cJ13_add_2 12 = .ok (.iload_n 3, 1) := by decide +kernel
theorem dJ13_add_2_13 : decode cJ13_add_2 13 = .ok (.aload_n 1, 1) := by decide +kernel
theorem dJ13_add_2_14 : decode cJ13_add_2 14 = .ok (.aastore, 1) := by decide +kernel
theorem dJ13_add_2_15 : decode cJ13_add_2 15 = .ok (.aload_n 0, 1) := by decide +kernel
theorem dJ13_add_2_16 : decode cJ13_add_2 16 = .ok (.iload_n 3, 1) := by decide +kernel
theorem dJ13_add_2_17 : decode cJ13_add_2 17 = .ok (.iconst 1, 1) := by decide +kernel
theorem dJ13_add_2_18 : decode cJ13_add_2 18 = .ok (.iadd, 1) := by decide +kernel
theorem dJ13_add_2_19 : decode cJ13_add_2 19 = .ok (.putfield 48, 3) := by decide +kernel
theorem dJ13_add_2_22 : decode cJ13_add_2 22 = .ok (.return_, 1) := by decide +kernel
theorem mw_J13_add_2 : MW yJ13_add_2 (Cond.code yJ13_add_2 cJ13_add_2 4 (Option.none : Option Jvm.ClassFile.FieldType)) cJ13_add_2 4 (Option.none : Option Jvm.ClassFile.FieldType) 3 := ⟨rfl, ⟨(lw_all_tbl q1200), rfl, (lw_all_tbl q192)⟩, rfl, ⟨by decide, by decide⟩, by decide +kernel⟩
noncomputable def c_J13_add_2_11  (l0 : Int) (l1 : Int) (l2 : Int) (l3 : Int) : Mo CH Int :=
  bnd (asq 10 l2 l3 l1) fun _ =>
  bnd (pf [127] 2 l0 (w32 (l3 + 1))) fun _ =>
  pr 0
theorem sc_J13_add_2_11 {Γ : Gm} {ts : TS} {d : Nat} (o : Ok Γ "java/util/ArrayList" cJ13_add_2 4 (Option.none : Option Jvm.ClassFile.FieldType) (d + 5))   (l0 : Int) (l1 : Int) (l2 : Int) (l3 : Int) (hl3 : R32 l3) : Sx Γ (fun h => (h, ts)) (fun a s => mt Γ = (0, a, ((s, ts) : Wd))) 11 [(0, vA (mg Γ) l0), (1, vA (mg Γ) l1), (2, vA (mg Γ) l2), (3, vI l3)] [] (c_J13_add_2_11 l0 l1 l2 l3) := by
  unfold c_J13_add_2_11
  refine s_aload_n o dJ13_add_2_11 rfl 2 rfl ?_
  refine s_iload_n o dJ13_add_2_12 rfl 3 rfl ?_
  refine s_aload_n o dJ13_add_2_13 rfl 1 rfl ?_
  refine s_aast (kd := 10) o (by decide) (as_10 o) (Or.inl ⟨_, rfl⟩) hl3 dJ13_add_2_14 ?_
  refine s_aload_n o dJ13_add_2_15 rfl 0 rfl ?_
  refine s_iload_n o dJ13_add_2_16 rfl 3 rfl ?_
  refine s_iconst o dJ13_add_2_17 ?_
  refine s_iadd o dJ13_add_2_18 ?_
  refine r_putf vI rfl o cf_J13_size (Or.inl (lw_all_tbl q1045)) dJ13_add_2_19 (Or.inl rfl) (w32_R _) ty_int ?_
  exact s_vret o rfl dJ13_add_2_22 (fun _ hh => hh)
noncomputable def c_J13_add_2 (l0 : Int) (l1 : Int) (l2 : Int) (l3 : Int) : Mo CH Int :=
  bnd (lnO l2) fun v1 =>
  if ¬ l3 = v1 then
    c_J13_add_2_11 l0 l1 l2 l3
  else
    bnd (isk 127 l0) fun _ =>
    bnd (c_J13_grow l0) fun v2 =>
    c_J13_add_2_11 l0 l1 v2 l3
theorem sc_J13_add_2 (g : gC) (d : Nat) (ts : TS) (l0 : Int) (l1 : Int) (l2 : Int) (l3 : Int) (hl3 : R32 l3) : SF g yJ13_add_2 (Cond.code yJ13_add_2 cJ13_add_2 4 (Option.none : Option Jvm.ClassFile.FieldType)) (Option.none : Option Jvm.ClassFile.FieldType) (d + 5) [vA g l0, vA g l1, vA g l2, vI l3] (fun h => (h, ts)) (c_J13_add_2 l0 l1 l2 l3) := by
  refine SF.of (lv := [(0, vA g l0), (1, vA g l1), (2, vA g l2), (3, vI l3)]) (by decide) (wt_A (wt_A (wt_A (wt_I wt_0)))) rfl (by simp only [la_A, la_I, la_J, la_0]) (fun Γ hg hnm o => ?_)
  subst hg
  have o : Ok Γ "java/util/ArrayList" cJ13_add_2 4 (Option.none : Option Jvm.ClassFile.FieldType) (d + 5) := o
  unfold c_J13_add_2
  refine s_iload_n o dJ13_add_2_0 rfl 3 rfl ?_
  refine s_aload_n o dJ13_add_2_1 rfl 2 rfl ?_
  refine s_lnO o dJ13_add_2_2 (fun v1 hv1 => ?_)
  refine s_icmp_ne (tgt := 11) o dJ13_add_2_3 (by decide) hl3 (rN hv1) ?_ ?_
  · exact sc_J13_add_2_11 o l0 l1 l2 l3 hl3
  · refine s_aload_n o dJ13_add_2_6 rfl 0 rfl ?_
    refine s_cvC (d := d + 4) (As := []) (st := []) (c := 27) o (sc_J13_grow (mg Γ) d ts l0) mw_J13_grow rfl (Or.inl (lw_all_tbl q1201)) rfl (lw_all_tbl qs34) (lw_all_tbl q1203) wt_0 rfl dJ13_add_2_7 rfl (rs := fun r => [vA (mg Γ) r]) (fun _ => rfl) (fun v2 hv2 => ?_)
    refine r_astore_nP o dJ13_add_2_10 rfl rfl [(0, vA (mg Γ) l0), (1, vA (mg Γ) l1), (3, vI l3)] [0, 1, 3] rfl ⟨(Nat.ne_of_beq_eq_false rfl), (fun _ => (vA_cat (mg Γ) l0)), ⟨(Nat.ne_of_beq_eq_false rfl), (fun _ => (vA_cat (mg Γ) l1)), ⟨(Nat.ne_of_beq_eq_false rfl), (fun _ => rfl), trivial⟩⟩⟩ ?_
    refine r_to [(0, vA (mg Γ) l0), (1, vA (mg Γ) l1), (2, vA (mg Γ) v2), (3, vI l3)] [1, 2, 0, 3] rfl ?_
    exact sc_J13_add_2_11 o l0 l1 v2 l3 hl3
theorem dJ13_add_0 : decode cJ13_add 0 = .ok (.aload_n 0, 1) := by decide +kernel
theorem dJ13_add_1 : decode cJ13_add 1 = .ok (.dup, 1) := by decide +kernel
theorem dJ13_add_2 : decode cJ13_add 2 = .ok (.getfield 63, 3) := by decide +kernel
theorem dJ13_add_5 : decode cJ13_add 5 = .ok (.iconst 1, 1) := by decide +kernel
theorem dJ13_add_6 : decode cJ13_add 6 = .ok (.iadd, 1) := by decide +kernel
theorem dJ13_add_7 : decode cJ13_add 7 = .ok (.putfield 63, 3) := by decide +kernel
theorem dJ13_add_10 : decode cJ13_add 10 = .ok (.aload_n 0, 1) := by decide +kernel
theorem dJ13_add_11 : decode cJ13_add 11 = .ok (.aload_n 1, 1) := by decide +kernel
theorem dJ13_add_12 : decode cJ13_add 12 = .ok (.aload_n 0, 1) := by decide +kernel
theorem dJ13_add_13 : decode cJ13_add 13 = .ok (.getfield 9, 3) := by decide +kernel
theorem dJ13_add_16 : decode cJ13_add 16 = .ok (.aload_n 0, 1) := by decide +kernel
theorem dJ13_add_17 : decode cJ13_add 17 = .ok (.getfield 48, 3) := by decide +kernel
theorem dJ13_add_20 : decode cJ13_add 20 = .ok (.invokevirtual 131, 3) := by decide +kernel
theorem dJ13_add_23 : decode cJ13_add 23 = .ok (.iconst 1, 1) := by decide +kernel
theorem dJ13_add_24 : decode cJ13_add 24 = .ok (.ireturn, 1) := by decide +kernel
theorem mw_J13_add : MW yJ13_add (Cond.code yJ13_add cJ13_add 2 (Option.some Jvm.ClassFile.FieldType.boolean)) cJ13_add 2 (Option.some Jvm.ClassFile.FieldType.boolean) 1 := ⟨rfl, ⟨(lw_all_tbl q1196), rfl, (lw_all_tbl q192)⟩, rfl, ⟨by decide, by decide⟩, by decide +kernel⟩
noncomputable def c_J13_add (l0 : Int) (l1 : Int) : Mo CH Int :=
  bnd (gf [127] 0 l0) fun v1 =>
  bnd (pf [127] 0 l0 (w32 (v1 + 1))) fun _ =>
  bnd (gf [127] 1 l0) fun v2 =>
  bnd (gf [127] 2 l0) fun v3 =>
  bnd (isk 127 l0) fun _ =>
  bnd (c_J13_add_2 l0 l1 v2 v3) fun _ =>
  pr 1
theorem sc_J13_add (g : gC) (d : Nat) (ts : TS) (l0 : Int) (l1 : Int) : SF g yJ13_add (Cond.code yJ13_add cJ13_add 2 (Option.some Jvm.ClassFile.FieldType.boolean)) (Option.some Jvm.ClassFile.FieldType.boolean) (d + 6) [vA g l0, vA g l1] (fun h => (h, ts)) (c_J13_add l0 l1) := by
  refine SF.of (lv := [(0, vA g l0), (1, vA g l1)]) (by decide) (wt_A (wt_A wt_0)) rfl (by simp only [la_A, la_I, la_J, la_0]) (fun Γ hg hnm o => ?_)
  subst hg
  have o : Ok Γ "java/util/ArrayList" cJ13_add 2 (Option.some Jvm.ClassFile.FieldType.boolean) (d + 6) := o
  unfold c_J13_add
  refine s_aload_n o dJ13_add_0 rfl 0 rfl ?_
  refine s_dup o dJ13_add_1 (vA_cat (mg Γ) l0) ?_
  refine r_getf vI rfl o cf_J12_modCount (Or.inr (Or.inr ⟨_, (lw_all_tbl q1047), (lw_all_tbl q1048)⟩)) dJ13_add_2 (fun v1 hv1 => ?_)
  refine s_iconst o dJ13_add_5 ?_
  refine s_iadd o dJ13_add_6 ?_
  refine r_putf vI rfl o cf_J12_modCount (Or.inr (Or.inr ⟨_, (lw_all_tbl q1047), (lw_all_tbl q1048)⟩)) dJ13_add_7 (Or.inl rfl) (w32_R _) ty_int ?_
  refine s_aload_n o dJ13_add_10 rfl 0 rfl ?_
  refine s_aload_n o dJ13_add_11 rfl 1 rfl ?_
  refine s_aload_n o dJ13_add_12 rfl 0 rfl ?_
  refine r_getf (vA (mg Γ)) rfl o cf_J13_elementData (Or.inl (lw_all_tbl q1044)) dJ13_add_13 (fun v2 hv2 => ?_)
  refine s_aload_n o dJ13_add_16 rfl 0 rfl ?_
  refine r_getf vI rfl o cf_J13_size (Or.inl (lw_all_tbl q1045)) dJ13_add_17 (fun v3 hv3 => ?_)
  refine s_cvC (d := d + 5) (As := [vA (mg Γ) l1, vA (mg Γ) v2, vI v3]) (st := []) (c := 27) o (sc_J13_add_2 (mg Γ) d ts l0 l1 v2 v3 hv3) mw_J13_add_2 rfl (Or.inl (lw_all_tbl q1197)) rfl (lw_all_tbl qs33) (lw_all_tbl q1199) wt_0 rfl dJ13_add_20 rfl (rs := fun _ => []) (fun _ => rfl) (fun _ _ => ?_)
  refine s_iconst o dJ13_add_23 ?_
  exact s_iret o rfl i_boolean (Or.inr rfl) dJ13_add_24 (fun _ hh => hh)
