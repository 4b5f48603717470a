/-! PRINTED: the component, 221 to 252 -/
set_option maxRecDepth 100000
theorem dX1_about_0 : decode cX1_about 0 = .ok (.iload_n 1, 1) := by decide +kernel
theorem dX1_about_1 : decode cX1_about 1 = .ok (.tableswitch 126 0 6 #[43, 65, 84, 103, 108, 116, 121], 43) := by decide +kernel
theorem dX1_about_44 : decode cX1_about 44 = .ok (.aload_n 0, 1) := by decide +kernel
theorem dX1_about_45 : decode cX1_about 45 = .ok (.getfield 140, 3) := by decide +kernel
theorem dX1_about_48 : decode cX1_about 48 = .ok (.ifnonnull 7, 3) := by decide +kernel
theorem dX1_about_51 : decode cX1_about 51 = .ok (.iconst 0, 1) := by decide +kernel
theorem dX1_about_52 : decode cX1_about 52 = .ok (.goto 13, 3) := by decide +kernel
theorem dX1_about_55 : decode cX1_about 55 = .ok (.aload_n 0, 1) := by decide +kernel
theorem dX1_about_56 : decode cX1_about 56 = .ok (.getfield 140, 3) := by decide +kernel
theorem dX1_about_59 : decode cX1_about 59 = .ok (.getfield 73, 3) := by decide +kernel
theorem dX1_about_62 : decode cX1_about 62 = .ok (.invokevirtual 79, 3) := by decide +kernel
theorem dX1_about_65 : decode cX1_about 65 = .ok (.ireturn, 1) := by decide +kernel
theorem dX1_about_66 : decode cX1_about 66 = .ok (.aload_n 0, 1) := by decide +kernel
theorem dX1_about_67 : decode cX1_about 67 = .ok (.getfield 140, 3) := by decide +kernel
theorem dX1_about_70 : decode cX1_about 70 = .ok (.ifnonnull 7, 3) := by decide +kernel
theorem dX1_about_73 : decode cX1_about 73 = .ok (.iconst 0, 1) := by decide +kernel
theorem dX1_about_74 : decode cX1_about 74 = .ok (.goto 10, 3) := by decide +kernel
theorem dX1_about_77 : decode cX1_about 77 = .ok (.aload_n 0, 1) := by decide +kernel
theorem dX1_about_78 : decode cX1_about 78 = .ok (.getfield 140, 3) := by decide +kernel
theorem dX1_about_81 : decode cX1_about 81 = .ok (.getfield 254, 3) := by decide +kernel
theorem dX1_about_84 : decode cX1_about 84 = .ok (.ireturn, 1) := by decide +kernel
theorem dX1_about_85 : decode cX1_about 85 = .ok (.aload_n 0, 1) := by decide +kernel
theorem dX1_about_86 : decode cX1_about 86 = .ok (.getfield 140, 3) := by decide +kernel
theorem dX1_about_89 : decode cX1_about 89 = .ok (.ifnonnull 7, 3) := by decide +kernel
theorem dX1_about_92 : decode cX1_about 92 = .ok (.iconst 0, 1) := by decide +kernel
theorem dX1_about_93 : decode cX1_about 93 = .ok (.goto 10, 3) := by decide +kernel
theorem dX1_about_96 : decode cX1_about 96 = .ok (.aload_n 0, 1) := by decide +kernel
theorem dX1_about_97 : decode cX1_about 97 = .ok (.getfield 140, 3) := by decide +kernel
theorem dX1_about_100 : decode cX1_about 100 = .ok (.getfield 257, 3) := by decide +kernel
theorem dX1_about_103 : decode cX1_about 103 = .ok (.ireturn, 1) := by decide +kernel
theorem dX1_about_104 : decode cX1_about 104 = .ok (.aload_n 0, 1) := by decide +kernel
theorem dX1_about_105 : decode cX1_about 105 = .ok (.getfield 57, 3) := by decide +kernel
theorem dX1_about_108 : decode cX1_about 108 = .ok (.ireturn, 1) := by decide +kernel
theorem dX1_about_109 : decode cX1_about 109 = .ok (.aload_n 0, 1) := by decide +kernel
theorem dX1_about_110 : decode cX1_about 110 = .ok (.getfield 40, 3) := by decide +kernel
theorem dX1_about_113 : decode cX1_about 113 = .ok (.getfield 63, 3) := by decide +kernel
theorem dX1_about_116 : decode cX1_about 116 = .ok (.ireturn, 1) := by decide +kernel
theorem dX1_about_117 : decode cX1_about 117 = .ok (.aload_n 0, 1) := by decide +kernel
theorem dX1_about_118 : decode cX1_about 118 = .ok (.getfield 208, 3) := by decide +kernel
theorem dX1_about_121 : decode cX1_about 121 = .ok (.ireturn, 1) := by decide +kernel
theorem dX1_about_122 : decode cX1_about 122 = .ok (.aload_n 0, 1) := by decide +kernel
theorem dX1_about_123 : decode cX1_about 123 = .ok (.getfield 212, 3) := by decide +kernel
theorem dX1_about_126 : decode cX1_about 126 = .ok (.ireturn, 1) := by decide +kernel
theorem dX1_about_127 : decode cX1_about 127 = .ok (.new 54, 3) := by decide +kernel
theorem dX1_about_130 : decode cX1_about 130 = .ok (.dup, 1) := by decide +kernel
theorem dX1_about_131 : decode cX1_about 131 = .ok (.invokespecial 56, 3) := by decide +kernel
theorem dX1_about_134 : decode cX1_about 134 = .ok (.athrow, 1) := by decide +kernel
theorem mw_X1_about : MW yX1_about (Cond.code yX1_about cX1_about 2 (Option.some Jvm.ClassFile.FieldType.int)) cX1_about 2 (Option.some Jvm.ClassFile.FieldType.int) 1 := ⟨rfl, ⟨(lw_all_tbl q2493), rfl, (lw_all_tbl q163)⟩, rfl, ⟨by decide, by decide⟩, by decide +kernel⟩
noncomputable def c_X1_about (l0 : Int) (l1 : Int) : Mo CH (Nat × Int) :=
  if l1 = 0 then
    bnd (gf [101] 4 l0) fun v2 =>
    if ¬ v2 = 0 then
      bnd (gf [101] 4 l0) fun v3 =>
      bnd (gf [115] 0 v3) fun v4 =>
      bnd (isk 127 v4) fun _ =>
      bnd (c_J13_size v4) fun v5 =>
      pr (0, v5)
    else
      pr (0, 0)
  else
    if l1 = 1 then
      bnd (gf [101] 4 l0) fun v7 =>
      if ¬ v7 = 0 then
        bnd (gf [101] 4 l0) fun v8 =>
        bnd (gf [115] 7 v8) fun v9 =>
        pr (0, v9)
      else
        pr (0, 0)
    else
      if l1 = 2 then
        bnd (gf [101] 4 l0) fun v11 =>
        if ¬ v11 = 0 then
          bnd (gf [101] 4 l0) fun v12 =>
          bnd (gf [115] 4 v12) fun v13 =>
          pr (0, v13)
        else
          pr (0, 0)
      else
        if l1 = 3 then
          bnd (gf [101] 1 l0) fun v15 =>
          pr (0, v15)
        else
          if l1 = 4 then
            bnd (gf [101] 8 l0) fun v17 =>
            bnd (gf [102] 1 v17) fun v18 =>
            pr (0, v18)
          else
            if l1 = 5 then
              bnd (gf [101] 6 l0) fun v20 =>
              pr (0, v20)
            else
              if l1 = 6 then
                bnd (gf [101] 7 l0) fun v22 =>
                pr (0, v22)
              else
                bnd (thr 28) fun x => pr (1, x)
theorem sc_X1_about (g : gC) (d : Nat) (ts : TS) (l0 : Int) (l1 : Int) (hl1 : R32 l1) : SX g yX1_about (Cond.code yX1_about cX1_about 2 (Option.some Jvm.ClassFile.FieldType.int)) (Option.some Jvm.ClassFile.FieldType.int) (d + 8) [vA g l0, vI l1] (fun h => (h, ts)) (c_X1_about l0 l1) := by
  refine SX.of (lv := [(0, vA g l0), (1, vI l1)]) (by decide) (wt_A (wt_I wt_0)) rfl (by simp only [la_A, la_I, la_J, la_0]) (fun Γ hg hnm o hX => ?_)
  subst hg
  have o : Ok Γ "LazyForge" cX1_about 2 (Option.some Jvm.ClassFile.FieldType.int) (d + 8) := o
  unfold c_X1_about
  refine s_iload_n o dX1_about_0 rfl 1 rfl ?_
  refine s_case (P := True) (fun e0 => ?_) (fun e0 => ?_)
  · refine s_tabE o e0 dX1_about_1 (r32 rfl) rfl rfl (tgt := 44) (by decide) ?_
    refine s_aload_n o dX1_about_44 rfl 0 rfl ?_
    refine r_getf (vA (mg Γ)) rfl o cf_X1_program (Or.inl (lw_all_tbl q444)) dX1_about_45 (fun v2 hv2 => ?_)
    refine s_ifnonnull (tgt := 55) o dX1_about_48 (by decide) ?_ ?_
    · refine s_aload_n o dX1_about_55 rfl 0 rfl ?_
      refine r_getf (vA (mg Γ)) rfl o cf_X1_program (Or.inl (lw_all_tbl q444)) dX1_about_56 (fun v3 hv3 => ?_)
      refine r_getf (vA (mg Γ)) rfl o cf_X15_functions (Or.inr (Or.inl ⟨_, q1058⟩)) dX1_about_59 (fun v4 hv4 => ?_)
      refine s_cvC (d := d + 7) (As := []) (st := []) (c := 27) o (sc_J13_size (mg Γ) (d + 7) ts v4) mw_J13_size rfl (Or.inl (lw_all_tbl q1631)) rfl (lw_all_tbl q1359) (lw_all_tbl q1358) wt_0 rfl dX1_about_62 rfl (rs := fun r => [vI r]) (fun _ => rfl) (fun v5 hv5 => ?_)
      exact s_iret o rfl i_int (hv5 _ rfl) dX1_about_65 (fun _ hh => hh)
    · refine s_iconst o dX1_about_51 ?_
      refine s_goto (tgt := 65) o dX1_about_52 (by decide) ?_
      exact s_iret o rfl i_int (r32 rfl) dX1_about_65 (fun _ hh => hh)
  · refine s_case (P := True) (fun e5 => ?_) (fun e5 => ?_)
    · refine s_tabE o e5 dX1_about_1 (r32 rfl) rfl rfl (tgt := 66) (by decide) ?_
      refine s_aload_n o dX1_about_66 rfl 0 rfl ?_
      refine r_getf (vA (mg Γ)) rfl o cf_X1_program (Or.inl (lw_all_tbl q444)) dX1_about_67 (fun v7 hv7 => ?_)
      refine s_ifnonnull (tgt := 77) o dX1_about_70 (by decide) ?_ ?_
      · refine s_aload_n o dX1_about_77 rfl 0 rfl ?_
        refine r_getf (vA (mg Γ)) rfl o cf_X1_program (Or.inl (lw_all_tbl q444)) dX1_about_78 (fun v8 hv8 => ?_)
        refine r_getf vI rfl o cf_X15_constructorCount (Or.inr (Or.inl ⟨_, q1081⟩)) dX1_about_81 (fun v9 hv9 => ?_)
        exact s_iret o rfl i_int hv9 dX1_about_84 (fun _ hh => hh)
      · refine s_iconst o dX1_about_73 ?_
        refine s_goto (tgt := 84) o dX1_about_74 (by decide) ?_
        exact s_iret o rfl i_int (r32 rfl) dX1_about_84 (fun _ hh => hh)
    · refine s_case (P := True) (fun e9 => ?_) (fun e9 => ?_)
      · refine s_tabE o e9 dX1_about_1 (r32 rfl) rfl rfl (tgt := 85) (by decide) ?_
        refine s_aload_n o dX1_about_85 rfl 0 rfl ?_
        refine r_getf (vA (mg Γ)) rfl o cf_X1_program (Or.inl (lw_all_tbl q444)) dX1_about_86 (fun v11 hv11 => ?_)
        refine s_ifnonnull (tgt := 96) o dX1_about_89 (by decide) ?_ ?_
        · refine s_aload_n o dX1_about_96 rfl 0 rfl ?_
          refine r_getf (vA (mg Γ)) rfl o cf_X1_program (Or.inl (lw_all_tbl q444)) dX1_about_97 (fun v12 hv12 => ?_)
          refine r_getf vI rfl o cf_X15_parts (Or.inr (Or.inl ⟨_, q1073⟩)) dX1_about_100 (fun v13 hv13 => ?_)
          exact s_iret o rfl i_int hv13 dX1_about_103 (fun _ hh => hh)
        · refine s_iconst o dX1_about_92 ?_
          refine s_goto (tgt := 103) o dX1_about_93 (by decide) ?_
          exact s_iret o rfl i_int (r32 rfl) dX1_about_103 (fun _ hh => hh)
      · refine s_case (P := True) (fun e13 => ?_) (fun e13 => ?_)
        · refine s_tabE o e13 dX1_about_1 (r32 rfl) rfl rfl (tgt := 104) (by decide) ?_
          refine s_aload_n o dX1_about_104 rfl 0 rfl ?_
          refine r_getf vI rfl o cf_X1_size (Or.inl (lw_all_tbl q441)) dX1_about_105 (fun v15 hv15 => ?_)
          exact s_iret o rfl i_int hv15 dX1_about_108 (fun _ hh => hh)
        · refine s_case (P := True) (fun e15 => ?_) (fun e15 => ?_)
          · refine s_tabE o e15 dX1_about_1 (r32 rfl) rfl rfl (tgt := 109) (by decide) ?_
            refine s_aload_n o dX1_about_109 rfl 0 rfl ?_
            refine r_getf (vA (mg Γ)) rfl o cf_X1_out (Or.inl (lw_all_tbl q449)) dX1_about_110 (fun v17 hv17 => ?_)
            refine r_getf vI rfl o cf_X2_size (Or.inr (Or.inl ⟨_, q227⟩)) dX1_about_113 (fun v18 hv18 => ?_)
            exact s_iret o rfl i_int hv18 dX1_about_116 (fun _ hh => hh)
          · refine s_case (P := True) (fun e18 => ?_) (fun e18 => ?_)
            · refine s_tabE o e18 dX1_about_1 (r32 rfl) rfl rfl (tgt := 117) (by decide) ?_
              refine s_aload_n o dX1_about_117 rfl 0 rfl ?_
              refine r_getf vI rfl o cf_X1_allCalls (Or.inl (lw_all_tbl q447)) dX1_about_118 (fun v20 hv20 => ?_)
              exact s_iret o rfl i_int hv20 dX1_about_121 (fun _ hh => hh)
            · refine s_case (P := True) (fun e20 => ?_) (fun e20 => ?_)
              · refine s_tabE o e20 dX1_about_1 (r32 rfl) rfl rfl (tgt := 122) (by decide) ?_
                refine s_aload_n o dX1_about_122 rfl 0 rfl ?_
                refine r_getf vI rfl o cf_X1_allCells (Or.inl (lw_all_tbl q448)) dX1_about_123 (fun v22 hv22 => ?_)
                exact s_iret o rfl i_int hv22 dX1_about_126 (fun _ hh => hh)
              · refine s_tabOut o dX1_about_1 hl1 (by omega) (tgt := 127) (by decide) ?_
                exact s_throw (d := d + 0) o hX mk_28 (by decide) (lw_all_tbl q491) at_28 (by decide +kernel) dX1_about_127 dX1_about_130 dX1_about_131 dX1_about_134 (fun _ _ hh => hh)
theorem dX1_must_0 : decode cX1_must 0 = .ok (.aload_n 0, 1) := by decide +kernel
theorem dX1_must_1 : decode cX1_must 1 = .ok (.getfield 140, 3) := by decide +kernel
theorem dX1_must_4 : decode cX1_must 4 = .ok (.ifnonnull 11, 3) := by decide +kernel
theorem dX1_must_7 : decode cX1_must 7 = .ok (.new 175, 3) := by decide +kernel
theorem dX1_must_10 : decode cX1_must 10 = .ok (.dup, 1) := by decide +kernel
theorem dX1_must_11 : decode cX1_must 11 = .ok (.invokespecial 177, 3) := by decide +kernel
theorem dX1_must_14 : decode cX1_must 14 = .ok (.athrow, 1) := by decide +kernel
theorem dX1_must_15 : decode cX1_must 15 = .ok (.return_, 1) := by decide +kernel
theorem mw_X1_must : MW yX1_must (Cond.code yX1_must cX1_must 1 (Option.none : Option Jvm.ClassFile.FieldType)) cX1_must 1 (Option.none : Option Jvm.ClassFile.FieldType) 0 := ⟨rfl, ⟨(lw_all_tbl q1912), rfl, (lw_all_tbl q163)⟩, rfl, ⟨by decide, by decide⟩, by decide +kernel⟩
noncomputable def c_X1_must (l0 : Int) : Mo CH (Nat × Int) :=
  bnd (gf [101] 4 l0) fun v1 =>
  if ¬ v1 = 0 then
    pr (0, 0)
  else
    bnd (thr 30) fun x => pr (1, x)
theorem sc_X1_must (g : gC) (d : Nat) (ts : TS) (l0 : Int) : SX g yX1_must (Cond.code yX1_must cX1_must 1 (Option.none : Option Jvm.ClassFile.FieldType)) (Option.none : Option Jvm.ClassFile.FieldType) (d + 8) [vA g l0] (fun h => (h, ts)) (c_X1_must l0) := by
  refine SX.of (lv := [(0, vA g l0)]) (by decide) (wt_A wt_0) rfl (by simp only [la_A, la_I, la_J, la_0]) (fun Γ hg hnm o hX => ?_)
  subst hg
  have o : Ok Γ "LazyForge" cX1_must 1 (Option.none : Option Jvm.ClassFile.FieldType) (d + 8) := o
  unfold c_X1_must
  refine s_aload_n o dX1_must_0 rfl 0 rfl ?_
  refine r_getf (vA (mg Γ)) rfl o cf_X1_program (Or.inl (lw_all_tbl q444)) dX1_must_1 (fun v1 hv1 => ?_)
  refine s_ifnonnull (tgt := 15) o dX1_must_4 (by decide) ?_ ?_
  · exact s_vret o rfl dX1_must_15 (fun _ hh => hh)
  · exact s_throw (d := d + 0) o hX mk_30 (by decide) (lw_all_tbl q1913) at_30 (by decide +kernel) dX1_must_7 dX1_must_10 dX1_must_11 dX1_must_14 (fun _ _ hh => hh)
theorem dX1_find_0 : decode cX1_find 0 = .ok (.aload_n 0, 1) := by decide +kernel
theorem dX1_find_1 : decode cX1_find 1 = .ok (.invokevirtual 178, 3) := by decide +kernel
theorem dX1_find_4 : decode cX1_find 4 = .ok (.iload_n 1, 1) := by decide +kernel
theorem dX1_find_5 : decode cX1_find 5 = .ok (.ifCond .lt 17, 3) := by decide +kernel
theorem dX1_find_8 : decode cX1_find 8 = .ok (.iload_n 1, 1) := by decide +kernel
theorem dX1_find_9 : decode cX1_find 9 = .ok (.aload_n 0, 1) := by decide +kernel
theorem dX1_find_10 : decode cX1_find 10 = .ok (.getfield 140, 3) := by decide +kernel
theorem dX1_find_13 : decode cX1_find 13 = .ok (.getfield 73, 3) := by decide +kernel
theorem dX1_find_16 : decode cX1_find 16 = .ok (.invokevirtual 79, 3) := by decide +kernel
theorem dX1_find_19 : decode cX1_find 19 = .ok (.if_icmp .lt 11, 3) := by decide +kernel
theorem dX1_find_22 : decode cX1_find 22 = .ok (.new 181, 3) := by decide +kernel
theorem dX1_find_25 : decode cX1_find 25 = .ok (.dup, 1) := by decide +kernel
theorem dX1_find_26 : decode cX1_find 26 = .ok (.invokespecial 183, 3) := by decide +kernel
theorem dX1_find_29 : decode cX1_find 29 = .ok (.athrow, 1) := by decide +kernel
theorem dX1_find_30 : decode cX1_find 30 = .ok (.aload_n 0, 1) := by decide +kernel
theorem dX1_find_31 : decode cX1_find 31 = .ok (.getfield 140, 3) := by decide +kernel
theorem dX1_find_34 : decode cX1_find 34 = .ok (.getfield 73, 3) := by decide +kernel
theorem dX1_find_37 : decode cX1_find 37 = .ok (.iload_n 1, 1) := by decide +kernel
theorem dX1_find_38 : decode cX1_find 38 = .ok (.invokevirtual 84, 3) := by decide +kernel
theorem dX1_find_41 : decode cX1_find 41 = .ok (.checkcast 88, 3) := by decide +kernel
theorem dX1_find_44 : decode cX1_find 44 = .ok (.areturn, 1) := by decide +kernel
theorem mw_X1_find : MW yX1_find (Cond.code yX1_find cX1_find 2 (Option.some (Jvm.ClassFile.FieldType.object "LazyForge$Function"))) cX1_find 2 (Option.some (Jvm.ClassFile.FieldType.object "LazyForge$Function")) 1 := ⟨rfl, ⟨(lw_all_tbl q2122), rfl, (lw_all_tbl q163)⟩, rfl, ⟨by decide, by decide⟩, by decide +kernel⟩
noncomputable def c_X1_find_22  : Mo CH (Nat × Int) :=
  bnd (thr 31) fun x => pr (1, x)
theorem sc_X1_find_22 {Γ : Gm} {ts : TS} {d : Nat} (hX : Xt Γ []) (o : Ok Γ "LazyForge" cX1_find 2 (Option.some (Jvm.ClassFile.FieldType.object "LazyForge$Function")) (d + 9))   : Sx Γ (fun h => (h, ts)) (fun (a : Nat × Int) s => mt Γ = (a.1, a.2, ((s, ts) : Wd))) 22 [] [] (c_X1_find_22) := by
  unfold c_X1_find_22
  exact s_throw (d := d + 1) o hX mk_31 (by decide) (lw_all_tbl q2097) at_31 (by decide +kernel) dX1_find_22 dX1_find_25 dX1_find_26 dX1_find_29 (fun _ _ hh => hh)
noncomputable def c_X1_find (l0 : Int) (l1 : Int) : Mo CH (Nat × Int) :=
  bnd (isk 101 l0) fun _ =>
  bndX (c_X1_must l0) fun _ =>
  if l1 < 0 then
    c_X1_find_22
  else
    bnd (gf [101] 4 l0) fun v2 =>
    bnd (gf [115] 0 v2) fun v3 =>
    bnd (isk 127 v3) fun _ =>
    bnd (c_J13_size v3) fun v4 =>
    if l1 < v4 then
      bnd (gf [101] 4 l0) fun v5 =>
      bnd (gf [115] 0 v5) fun v6 =>
      bnd (isk 127 v6) fun _ =>
      bnd (c_J13_get v6 l1) fun v7 =>
      bnd (ckk [116] v7) fun _ =>
      pr (0, v7)
    else
      c_X1_find_22
theorem sc_X1_find (g : gC) (d : Nat) (ts : TS) (l0 : Int) (l1 : Int) (hl1 : R32 l1) : SX g yX1_find (Cond.code yX1_find cX1_find 2 (Option.some (Jvm.ClassFile.FieldType.object "LazyForge$Function"))) (Option.some (Jvm.ClassFile.FieldType.object "LazyForge$Function")) (d + 9) [vA g l0, vI l1] (fun h => (h, ts)) (c_X1_find l0 l1) := by
  refine SX.of (lv := [(0, vA g l0), (1, vI l1)]) (by decide) (wt_A (wt_I wt_0)) rfl (by simp only [la_A, la_I, la_J, la_0]) (fun Γ hg hnm o hX => ?_)
  subst hg
  have o : Ok Γ "LazyForge" cX1_find 2 (Option.some (Jvm.ClassFile.FieldType.object "LazyForge$Function")) (d + 9) := o
  unfold c_X1_find
  refine s_aload_n o dX1_find_0 rfl 0 rfl ?_
  refine s_cvX (d := d + 8) (As := []) (st := []) (c := 1) o hX (sc_X1_must (mg Γ) d ts l0) mw_X1_must rfl (lw_all_tbl q1909) rfl (lw_all_tbl qs47) (lw_all_tbl q1911) wt_0 rfl dX1_find_1 rfl (rs := fun _ => []) (fun _ => rfl) (fun _ _ hh => hh) (fun _ _ => ?_)
  refine s_iload_n o dX1_find_4 rfl 1 rfl ?_
  refine s_if_lt (tgt := 22) o dX1_find_5 (by decide) hl1 ?_ ?_
  · refine r_to [] [] rfl ?_
    exact sc_X1_find_22 hX o
  · refine s_iload_n o dX1_find_8 rfl 1 rfl ?_
    refine s_aload_n o dX1_find_9 rfl 0 rfl ?_
    refine r_getf (vA (mg Γ)) rfl o cf_X1_program (Or.inl (lw_all_tbl q444)) dX1_find_10 (fun v2 hv2 => ?_)
    refine r_getf (vA (mg Γ)) rfl o cf_X15_functions (Or.inr (Or.inl ⟨_, q1058⟩)) dX1_find_13 (fun v3 hv3 => ?_)
    refine s_cvC (d := d + 8) (As := []) (st := [vI l1]) (c := 27) o (sc_J13_size (mg Γ) (d + 8) ts v3) mw_J13_size rfl (Or.inl (lw_all_tbl q1631)) rfl (lw_all_tbl q1359) (lw_all_tbl q1358) (wt_I wt_0) rfl dX1_find_16 rfl (rs := fun r => [vI r, vI l1]) (fun _ => rfl) (fun v4 hv4 => ?_)
    refine s_icmp_lt (tgt := 30) o dX1_find_19 (by decide) hl1 (hv4 _ rfl) ?_ ?_
    · refine s_aload_n o dX1_find_30 rfl 0 rfl ?_
      refine r_getf (vA (mg Γ)) rfl o cf_X1_program (Or.inl (lw_all_tbl q444)) dX1_find_31 (fun v5 hv5 => ?_)
      refine r_getf (vA (mg Γ)) rfl o cf_X15_functions (Or.inr (Or.inl ⟨_, q1058⟩)) dX1_find_34 (fun v6 hv6 => ?_)
      refine s_iload_n o dX1_find_37 rfl 1 rfl ?_
      refine s_cvC (d := d + 8) (As := [vI l1]) (st := []) (c := 27) o (sc_J13_get (mg Γ) (d + 6) ts v6 l1 hl1) mw_J13_get rfl (Or.inl (lw_all_tbl q1632)) rfl (lw_all_tbl q1268) (lw_all_tbl q1267) wt_0 rfl dX1_find_38 rfl (rs := fun r => [vA (mg Γ) r]) (fun _ => rfl) (fun v7 hv7 => ?_)
      refine s_cast o (cs_X16 o) (lw_all_tbl q1633) dX1_find_41 ?_
      exact s_aret o rfl (Or.inl ⟨_, rfl⟩) dX1_find_44 (fun _ hh => hh)
    · refine r_to [] [] rfl ?_
      exact sc_X1_find_22 hX o
theorem dX1_called_0 : decode cX1_called 0 = .ok (.aload_n 0, 1) := by decide +kernel
theorem dX1_called_1 : decode cX1_called 1 = .ok (.iload_n 1, 1) := by decide +kernel
theorem dX1_called_2 : decode cX1_called 2 = .ok (.invokevirtual 187, 3) := by decide +kernel
theorem dX1_called_5 : decode cX1_called 5 = .ok (.getfield 253, 3) := by decide +kernel
theorem dX1_called_8 : decode cX1_called 8 = .ok (.ireturn, 1) := by decide +kernel
theorem mw_X1_called : MW yX1_called (Cond.code yX1_called cX1_called 2 (Option.some Jvm.ClassFile.FieldType.int)) cX1_called 2 (Option.some Jvm.ClassFile.FieldType.int) 1 := ⟨rfl, ⟨(lw_all_tbl q2486), rfl, (lw_all_tbl q163)⟩, rfl, ⟨by decide, by decide⟩, by decide +kernel⟩
noncomputable def c_X1_called (l0 : Int) (l1 : Int) : Mo CH (Nat × Int) :=
  bnd (isk 101 l0) fun _ =>
  bndX (c_X1_find l0 l1) fun v1 =>
  bnd (gf [116] 10 v1) fun v2 =>
  pr (0, v2)
theorem sc_X1_called (g : gC) (d : Nat) (ts : TS) (l0 : Int) (l1 : Int) (hl1 : R32 l1) : SX g yX1_called (Cond.code yX1_called cX1_called 2 (Option.some Jvm.ClassFile.FieldType.int)) (Option.some Jvm.ClassFile.FieldType.int) (d + 10) [vA g l0, vI l1] (fun h => (h, ts)) (c_X1_called l0 l1) := by
  refine SX.of (lv := [(0, vA g l0), (1, vI l1)]) (by decide) (wt_A (wt_I wt_0)) rfl (by simp only [la_A, la_I, la_J, la_0]) (fun Γ hg hnm o hX => ?_)
  subst hg
  have o : Ok Γ "LazyForge" cX1_called 2 (Option.some Jvm.ClassFile.FieldType.int) (d + 10) := o
  unfold c_X1_called
  refine s_aload_n o dX1_called_0 rfl 0 rfl ?_
  refine s_iload_n o dX1_called_1 rfl 1 rfl ?_
  refine s_cvX (d := d + 9) (As := [vI l1]) (st := []) (c := 1) o hX (sc_X1_find (mg Γ) d ts l0 l1 hl1) mw_X1_find rfl (lw_all_tbl q2119) rfl (lw_all_tbl qs48) (lw_all_tbl q2121) wt_0 rfl dX1_called_2 rfl (rs := fun r => [vA (mg Γ) r]) (fun _ => rfl) (fun _ _ hh => hh) (fun v1 hv1 => ?_)
  refine r_getf vI rfl o cf_X16_calls (Or.inr (Or.inl ⟨_, q1168⟩)) dX1_called_5 (fun v2 hv2 => ?_)
  exact s_iret o rfl i_int hv2 dX1_called_8 (fun _ hh => hh)
theorem dX1_number_0 : decode cX1_number 0 = .ok (.iload_n 1, 1) := by decide +kernel
theorem dX1_number_1 : decode cX1_number 1 = .ok (.ifCond .lt 14, 3) := by decide +kernel
theorem dX1_number_4 : decode cX1_number 4 = .ok (.iload_n 1, 1) := by decide +kernel
theorem dX1_number_5 : decode cX1_number 5 = .ok (.aload_n 0, 1) := by decide +kernel
theorem dX1_number_6 : decode cX1_number 6 = .ok (.getfield 50, 3) := by decide +kernel
theorem dX1_number_9 : decode cX1_number 9 = .ok (.getfield 246, 3) := by decide +kernel
theorem dX1_number_12 : decode cX1_number 12 = .ok (.if_icmp .lt 11, 3) := by decide +kernel
theorem dX1_number_15 : decode cX1_number 15 = .ok (.new 181, 3) := by decide +kernel
theorem dX1_number_18 : decode cX1_number 18 = .ok (.dup, 1) := by decide +kernel
theorem dX1_number_19 : decode cX1_number 19 = .ok (.invokespecial 183, 3) := by decide +kernel
theorem dX1_number_22 : decode cX1_number 22 = .ok (.athrow, 1) := by decide +kernel
theorem dX1_number_23 : decode cX1_number 23 = .ok (.aload_n 0, 1) := by decide +kernel
theorem dX1_number_24 : decode cX1_number 24 = .ok (.getfield 50, 3) := by decide +kernel
theorem dX1_number_27 : decode cX1_number 27 = .ok (.getfield 249, 3) := by decide +kernel
theorem dX1_number_30 : decode cX1_number 30 = .ok (.iload_n 1, 1) := by decide +kernel
theorem dX1_number_31 : decode cX1_number 31 = .ok (.iaload, 1) := by decide +kernel
theorem dX1_number_32 : decode cX1_number 32 = .ok (.ireturn, 1) := by decide +kernel
theorem mw_X1_number : MW yX1_number (Cond.code yX1_number cX1_number 2 (Option.some Jvm.ClassFile.FieldType.int)) cX1_number 2 (Option.some Jvm.ClassFile.FieldType.int) 1 := ⟨rfl, ⟨(lw_all_tbl q2479), rfl, (lw_all_tbl q163)⟩, rfl, ⟨by decide, by decide⟩, by decide +kernel⟩
noncomputable def c_X1_number_15  : Mo CH (Nat × Int) :=
  bnd (thr 31) fun x => pr (1, x)
theorem sc_X1_number_15 {Γ : Gm} {ts : TS} {d : Nat} (hX : Xt Γ []) (o : Ok Γ "LazyForge" cX1_number 2 (Option.some Jvm.ClassFile.FieldType.int) (d + 8))   : Sx Γ (fun h => (h, ts)) (fun (a : Nat × Int) s => mt Γ = (a.1, a.2, ((s, ts) : Wd))) 15 [] [] (c_X1_number_15) := by
  unfold c_X1_number_15
  exact s_throw (d := d + 0) o hX mk_31 (by decide) (lw_all_tbl q2097) at_31 (by decide +kernel) dX1_number_15 dX1_number_18 dX1_number_19 dX1_number_22 (fun _ _ hh => hh)
noncomputable def c_X1_number (l0 : Int) (l1 : Int) : Mo CH (Nat × Int) :=
  if l1 < 0 then
    c_X1_number_15
  else
    bnd (gf [101] 10 l0) fun v1 =>
    bnd (gf [103] 21 v1) fun v2 =>
    if l1 < v2 then
      bnd (gf [101] 10 l0) fun v3 =>
      bnd (gf [103] 20 v3) fun v4 =>
      bnd (ald 0 v4 l1) fun v5 =>
      pr (0, v5)
    else
      c_X1_number_15
theorem sc_X1_number (g : gC) (d : Nat) (ts : TS) (l0 : Int) (l1 : Int) (hl1 : R32 l1) : SX g yX1_number (Cond.code yX1_number cX1_number 2 (Option.some Jvm.ClassFile.FieldType.int)) (Option.some Jvm.ClassFile.FieldType.int) (d + 8) [vA g l0, vI l1] (fun h => (h, ts)) (c_X1_number l0 l1) := by
  refine SX.of (lv := [(0, vA g l0), (1, vI l1)]) (by decide) (wt_A (wt_I wt_0)) rfl (by simp only [la_A, la_I, la_J, la_0]) (fun Γ hg hnm o hX => ?_)
  subst hg
  have o : Ok Γ "LazyForge" cX1_number 2 (Option.some Jvm.ClassFile.FieldType.int) (d + 8) := o
  unfold c_X1_number
  refine s_iload_n o dX1_number_0 rfl 1 rfl ?_
  refine s_if_lt (tgt := 15) o dX1_number_1 (by decide) hl1 ?_ ?_
  · refine r_to [] [] rfl ?_
    exact sc_X1_number_15 hX o
  · refine s_iload_n o dX1_number_4 rfl 1 rfl ?_
    refine s_aload_n o dX1_number_5 rfl 0 rfl ?_
    refine r_getf (vA (mg Γ)) rfl o cf_X1_machine (Or.inl (lw_all_tbl q451)) dX1_number_6 (fun v1 hv1 => ?_)
    refine r_getf vI rfl o cf_X3_rowSize (Or.inr (Or.inl ⟨_, q353⟩)) dX1_number_9 (fun v2 hv2 => ?_)
    refine s_icmp_lt (tgt := 23) o dX1_number_12 (by decide) hl1 hv2 ?_ ?_
    · refine s_aload_n o dX1_number_23 rfl 0 rfl ?_
      refine r_getf (vA (mg Γ)) rfl o cf_X1_machine (Or.inl (lw_all_tbl q451)) dX1_number_24 (fun v3 hv3 => ?_)
      refine r_getf (vA (mg Γ)) rfl o cf_X3_row (Or.inr (Or.inl ⟨_, q352⟩)) dX1_number_27 (fun v4 hv4 => ?_)
      refine s_iload_n o dX1_number_30 rfl 1 rfl ?_
      refine r_iald o hl1 dX1_number_31 (fun v5 hv5 => ?_)
      exact s_iret o rfl i_int hv5 dX1_number_32 (fun _ hh => hh)
    · refine r_to [] [] rfl ?_
      exact sc_X1_number_15 hX o
theorem dX1_result_0 : decode cX1_result 0 = .ok (.iload_n 1, 1) := by decide +kernel
theorem dX1_result_1 : decode cX1_result 1 = .ok (.tableswitch 135 0 9 #[55, 63, 71, 79, 87, 95, 103, 111, 119, 127], 55) := by decide +kernel
theorem dX1_result_56 : decode cX1_result 56 = .ok (.aload_n 0, 1) := by decide +kernel
theorem dX1_result_57 : decode cX1_result 57 = .ok (.getfield 50, 3) := by decide +kernel
theorem dX1_result_60 : decode cX1_result 60 = .ok (.getfield 225, 3) := by decide +kernel
theorem dX1_result_63 : decode cX1_result 63 = .ok (.ireturn, 1) := by decide +kernel
theorem dX1_result_64 : decode cX1_result 64 = .ok (.aload_n 0, 1) := by decide +kernel
theorem dX1_result_65 : decode cX1_result 65 = .ok (.getfield 50, 3) := by decide +kernel
theorem dX1_result_68 : decode cX1_result 68 = .ok (.getfield 228, 3) := by decide +kernel
theorem dX1_result_71 : decode cX1_result 71 = .ok (.ireturn, 1) := by decide +kernel
theorem dX1_result_72 : decode cX1_result 72 = .ok (.aload_n 0, 1) := by decide +kernel
theorem dX1_result_73 : decode cX1_result 73 = .ok (.getfield 50, 3) := by decide +kernel
theorem dX1_result_76 : decode cX1_result 76 = .ok (.getfield 219, 3) := by decide +kernel
theorem dX1_result_79 : decode cX1_result 79 = .ok (.ireturn, 1) := by decide +kernel
theorem dX1_result_80 : decode cX1_result 80 = .ok (.aload_n 0, 1) := by decide +kernel
theorem dX1_result_81 : decode cX1_result 81 = .ok (.getfield 50, 3) := by decide +kernel
theorem dX1_result_84 : decode cX1_result 84 = .ok (.getfield 222, 3) := by decide +kernel
theorem dX1_result_87 : decode cX1_result 87 = .ok (.ireturn, 1) := by decide +kernel
theorem dX1_result_88 : decode cX1_result 88 = .ok (.aload_n 0, 1) := by decide +kernel
theorem dX1_result_89 : decode cX1_result 89 = .ok (.getfield 50, 3) := by decide +kernel
theorem dX1_result_92 : decode cX1_result 92 = .ok (.getfield 231, 3) := by decide +kernel
theorem dX1_result_95 : decode cX1_result 95 = .ok (.ireturn, 1) := by decide +kernel
theorem dX1_result_96 : decode cX1_result 96 = .ok (.aload_n 0, 1) := by decide +kernel
theorem dX1_result_97 : decode cX1_result 97 = .ok (.getfield 50, 3) := by decide +kernel
theorem dX1_result_100 : decode cX1_result 100 = .ok (.getfield 234, 3) := by decide +kernel
theorem dX1_result_103 : decode cX1_result 103 = .ok (.ireturn, 1) := by decide +kernel
theorem dX1_result_104 : decode cX1_result 104 = .ok (.aload_n 0, 1) := by decide +kernel
theorem dX1_result_105 : decode cX1_result 105 = .ok (.getfield 50, 3) := by decide +kernel
theorem dX1_result_108 : decode cX1_result 108 = .ok (.getfield 237, 3) := by decide +kernel
theorem dX1_result_111 : decode cX1_result 111 = .ok (.ireturn, 1) := by decide +kernel
theorem dX1_result_112 : decode cX1_result 112 = .ok (.aload_n 0, 1) := by decide +kernel
theorem dX1_result_113 : decode cX1_result 113 = .ok (.getfield 50, 3) := by decide +kernel
theorem dX1_result_116 : decode cX1_result 116 = .ok (.getfield 240, 3) := by decide +kernel
theorem dX1_result_119 : decode cX1_result 119 = .ok (.ireturn, 1) := by decide +kernel
theorem dX1_result_120 : decode cX1_result 120 = .ok (.aload_n 0, 1) := by decide +kernel
theorem dX1_result_121 : decode cX1_result 121 = .ok (.getfield 50, 3) := by decide +kernel
theorem dX1_result_124 : decode cX1_result 124 = .ok (.getfield 243, 3) := by decide +kernel
theorem dX1_result_127 : decode cX1_result 127 = .ok (.ireturn, 1) := by decide +kernel
theorem dX1_result_128 : decode cX1_result 128 = .ok (.aload_n 0, 1) := by decide +kernel
theorem dX1_result_129 : decode cX1_result 129 = .ok (.getfield 50, 3) := by decide +kernel
theorem dX1_result_132 : decode cX1_result 132 = .ok (.getfield 246, 3) := by decide +kernel
theorem dX1_result_135 : decode cX1_result 135 = .ok (.ireturn, 1) := by decide +kernel
theorem dX1_result_136 : decode cX1_result 136 = .ok (.new 54, 3) := by decide +kernel
theorem dX1_result_139 : decode cX1_result 139 = .ok (.dup, 1) := by decide +kernel
theorem dX1_result_140 : decode cX1_result 140 = .ok (.invokespecial 56, 3) := by decide +kernel
theorem dX1_result_143 : decode cX1_result 143 = .ok (.athrow, 1) := by decide +kernel
theorem mw_X1_result : MW yX1_result (Cond.code yX1_result cX1_result 2 (Option.some Jvm.ClassFile.FieldType.int)) cX1_result 2 (Option.some Jvm.ClassFile.FieldType.int) 1 := ⟨rfl, ⟨(lw_all_tbl q2472), rfl, (lw_all_tbl q163)⟩, rfl, ⟨by decide, by decide⟩, by decide +kernel⟩
noncomputable def c_X1_result (l0 : Int) (l1 : Int) : Mo CH (Nat × Int) :=
  if l1 = 0 then
    bnd (gf [101] 10 l0) fun v2 =>
    bnd (gf [103] 22 v2) fun v3 =>
    pr (0, v3)
  else
    if l1 = 1 then
      bnd (gf [101] 10 l0) fun v5 =>
      bnd (gf [103] 23 v5) fun v6 =>
      pr (0, v6)
    else
      if l1 = 2 then
        bnd (gf [101] 10 l0) fun v8 =>
        bnd (gf [103] 24 v8) fun v9 =>
        pr (0, v9)
      else
        if l1 = 3 then
          bnd (gf [101] 10 l0) fun v11 =>
          bnd (gf [103] 25 v11) fun v12 =>
          pr (0, v12)
        else
          if l1 = 4 then
            bnd (gf [101] 10 l0) fun v14 =>
            bnd (gf [103] 26 v14) fun v15 =>
            pr (0, v15)
          else
            if l1 = 5 then
              bnd (gf [101] 10 l0) fun v17 =>
              bnd (gf [103] 27 v17) fun v18 =>
              pr (0, v18)
            else
              if l1 = 6 then
                bnd (gf [101] 10 l0) fun v20 =>
                bnd (gf [103] 28 v20) fun v21 =>
                pr (0, v21)
              else
                if l1 = 7 then
                  bnd (gf [101] 10 l0) fun v23 =>
                  bnd (gf [103] 29 v23) fun v24 =>
                  pr (0, v24)
                else
                  if l1 = 8 then
                    bnd (gf [101] 10 l0) fun v26 =>
                    bnd (gf [103] 30 v26) fun v27 =>
                    pr (0, v27)
                  else
                    if l1 = 9 then
                      bnd (gf [101] 10 l0) fun v29 =>
                      bnd (gf [103] 21 v29) fun v30 =>
                      pr (0, v30)
                    else
                      bnd (thr 28) fun x => pr (1, x)
theorem sc_X1_result (g : gC) (d : Nat) (ts : TS) (l0 : Int) (l1 : Int) (hl1 : R32 l1) : SX g yX1_result (Cond.code yX1_result cX1_result 2 (Option.some Jvm.ClassFile.FieldType.int)) (Option.some Jvm.ClassFile.FieldType.int) (d + 8) [vA g l0, vI l1] (fun h => (h, ts)) (c_X1_result l0 l1) := by
  refine SX.of (lv := [(0, vA g l0), (1, vI l1)]) (by decide) (wt_A (wt_I wt_0)) rfl (by simp only [la_A, la_I, la_J, la_0]) (fun Γ hg hnm o hX => ?_)
  subst hg
  have o : Ok Γ "LazyForge" cX1_result 2 (Option.some Jvm.ClassFile.FieldType.int) (d + 8) := o
  unfold c_X1_result
  refine s_iload_n o dX1_result_0 rfl 1 rfl ?_
  refine s_case (P := True) (fun e0 => ?_) (fun e0 => ?_)
  · refine s_tabE o e0 dX1_result_1 (r32 rfl) rfl rfl (tgt := 56) (by decide) ?_
    refine s_aload_n o dX1_result_56 rfl 0 rfl ?_
    refine r_getf (vA (mg Γ)) rfl o cf_X1_machine (Or.inl (lw_all_tbl q451)) dX1_result_57 (fun v2 hv2 => ?_)
    refine r_getf vI rfl o cf_X3_ends (Or.inr (Or.inl ⟨_, q356⟩)) dX1_result_60 (fun v3 hv3 => ?_)
    exact s_iret o rfl i_int hv3 dX1_result_63 (fun _ hh => hh)
  · refine s_case (P := True) (fun e3 => ?_) (fun e3 => ?_)
    · refine s_tabE o e3 dX1_result_1 (r32 rfl) rfl rfl (tgt := 64) (by decide) ?_
      refine s_aload_n o dX1_result_64 rfl 0 rfl ?_
      refine r_getf (vA (mg Γ)) rfl o cf_X1_machine (Or.inl (lw_all_tbl q451)) dX1_result_65 (fun v5 hv5 => ?_)
      refine r_getf vI rfl o cf_X3_why (Or.inr (Or.inl ⟨_, q358⟩)) dX1_result_68 (fun v6 hv6 => ?_)
      exact s_iret o rfl i_int hv6 dX1_result_71 (fun _ hh => hh)
    · refine s_case (P := True) (fun e6 => ?_) (fun e6 => ?_)
      · refine s_tabE o e6 dX1_result_1 (r32 rfl) rfl rfl (tgt := 72) (by decide) ?_
        refine s_aload_n o dX1_result_72 rfl 0 rfl ?_
        refine r_getf (vA (mg Γ)) rfl o cf_X1_machine (Or.inl (lw_all_tbl q451)) dX1_result_73 (fun v8 hv8 => ?_)
        refine r_getf vI rfl o cf_X3_calls (Or.inr (Or.inl ⟨_, q359⟩)) dX1_result_76 (fun v9 hv9 => ?_)
        exact s_iret o rfl i_int hv9 dX1_result_79 (fun _ hh => hh)
      · refine s_case (P := True) (fun e9 => ?_) (fun e9 => ?_)
        · refine s_tabE o e9 dX1_result_1 (r32 rfl) rfl rfl (tgt := 80) (by decide) ?_
          refine s_aload_n o dX1_result_80 rfl 0 rfl ?_
          refine r_getf (vA (mg Γ)) rfl o cf_X1_machine (Or.inl (lw_all_tbl q451)) dX1_result_81 (fun v11 hv11 => ?_)
          refine r_getf vI rfl o cf_X3_used (Or.inr (Or.inl ⟨_, q362⟩)) dX1_result_84 (fun v12 hv12 => ?_)
          exact s_iret o rfl i_int hv12 dX1_result_87 (fun _ hh => hh)
        · refine s_case (P := True) (fun e12 => ?_) (fun e12 => ?_)
          · refine s_tabE o e12 dX1_result_1 (r32 rfl) rfl rfl (tgt := 88) (by decide) ?_
            refine s_aload_n o dX1_result_88 rfl 0 rfl ?_
            refine r_getf (vA (mg Γ)) rfl o cf_X1_machine (Or.inl (lw_all_tbl q451)) dX1_result_89 (fun v14 hv14 => ?_)
            refine r_getf vI rfl o cf_X3_suspensions (Or.inr (Or.inl ⟨_, q364⟩)) dX1_result_92 (fun v15 hv15 => ?_)
            exact s_iret o rfl i_int hv15 dX1_result_95 (fun _ hh => hh)
          · refine s_case (P := True) (fun e15 => ?_) (fun e15 => ?_)
            · refine s_tabE o e15 dX1_result_1 (r32 rfl) rfl rfl (tgt := 96) (by decide) ?_
              refine s_aload_n o dX1_result_96 rfl 0 rfl ?_
              refine r_getf (vA (mg Γ)) rfl o cf_X1_machine (Or.inl (lw_all_tbl q451)) dX1_result_97 (fun v17 hv17 => ?_)
              refine r_getf vI rfl o cf_X3_partsOfCalls (Or.inr (Or.inl ⟨_, q366⟩)) dX1_result_100 (fun v18 hv18 => ?_)
              exact s_iret o rfl i_int hv18 dX1_result_103 (fun _ hh => hh)
            · refine s_case (P := True) (fun e18 => ?_) (fun e18 => ?_)
              · refine s_tabE o e18 dX1_result_1 (r32 rfl) rfl rfl (tgt := 104) (by decide) ?_
                refine s_aload_n o dX1_result_104 rfl 0 rfl ?_
                refine r_getf (vA (mg Γ)) rfl o cf_X1_machine (Or.inl (lw_all_tbl q451)) dX1_result_105 (fun v20 hv20 => ?_)
                refine r_getf vI rfl o cf_X3_objects (Or.inr (Or.inl ⟨_, q368⟩)) dX1_result_108 (fun v21 hv21 => ?_)
                exact s_iret o rfl i_int hv21 dX1_result_111 (fun _ hh => hh)
              · refine s_case (P := True) (fun e21 => ?_) (fun e21 => ?_)
                · refine s_tabE o e21 dX1_result_1 (r32 rfl) rfl rfl (tgt := 112) (by decide) ?_
                  refine s_aload_n o dX1_result_112 rfl 0 rfl ?_
                  refine r_getf (vA (mg Γ)) rfl o cf_X1_machine (Or.inl (lw_all_tbl q451)) dX1_result_113 (fun v23 hv23 => ?_)
                  refine r_getf vI rfl o cf_X3_updates (Or.inr (Or.inl ⟨_, q369⟩)) dX1_result_116 (fun v24 hv24 => ?_)
                  exact s_iret o rfl i_int hv24 dX1_result_119 (fun _ hh => hh)
                · refine s_case (P := True) (fun e24 => ?_) (fun e24 => ?_)
                  · refine s_tabE o e24 dX1_result_1 (r32 rfl) rfl rfl (tgt := 120) (by decide) ?_
                    refine s_aload_n o dX1_result_120 rfl 0 rfl ?_
                    refine r_getf (vA (mg Γ)) rfl o cf_X1_machine (Or.inl (lw_all_tbl q451)) dX1_result_121 (fun v26 hv26 => ?_)
                    refine r_getf vI rfl o cf_X3_atOnce (Or.inr (Or.inl ⟨_, q373⟩)) dX1_result_124 (fun v27 hv27 => ?_)
                    exact s_iret o rfl i_int hv27 dX1_result_127 (fun _ hh => hh)
                  · refine s_case (P := True) (fun e27 => ?_) (fun e27 => ?_)
                    · refine s_tabE o e27 dX1_result_1 (r32 rfl) rfl rfl (tgt := 128) (by decide) ?_
                      refine s_aload_n o dX1_result_128 rfl 0 rfl ?_
                      refine r_getf (vA (mg Γ)) rfl o cf_X1_machine (Or.inl (lw_all_tbl q451)) dX1_result_129 (fun v29 hv29 => ?_)
                      refine r_getf vI rfl o cf_X3_rowSize (Or.inr (Or.inl ⟨_, q353⟩)) dX1_result_132 (fun v30 hv30 => ?_)
                      exact s_iret o rfl i_int hv30 dX1_result_135 (fun _ hh => hh)
                    · refine s_tabOut o dX1_result_1 hl1 (by omega) (tgt := 136) (by decide) ?_
                      exact s_throw (d := d + 0) o hX mk_28 (by decide) (lw_all_tbl q491) at_28 (by decide +kernel) dX1_result_136 dX1_result_139 dX1_result_140 dX1_result_143 (fun _ _ hh => hh)
theorem dX1_run_0 : decode cX1_run 0 = .ok (.aload_n 0, 1) := by decide +kernel
theorem dX1_run_1 : decode cX1_run 1 = .ok (.invokevirtual 178, 3) := by decide +kernel
theorem dX1_run_4 : decode cX1_run 4 = .ok (.iload_n 2, 1) := by decide +kernel
theorem dX1_run_5 : decode cX1_run 5 = .ok (.ifCond .lt 10, 3) := by decide +kernel
theorem dX1_run_8 : decode cX1_run 8 = .ok (.iload_n 2, 1) := by decide +kernel
theorem dX1_run_9 : decode cX1_run 9 = .ok (.sipush 800, 3) := by decide +kernel
theorem dX1_run_12 : decode cX1_run 12 = .ok (.if_icmp .le 11, 3) := by decide +kernel
theorem dX1_run_15 : decode cX1_run 15 = .ok (.new 54, 3) := by decide +kernel
theorem dX1_run_18 : decode cX1_run 18 = .ok (.dup, 1) := by decide +kernel
theorem dX1_run_19 : decode cX1_run 19 = .ok (.invokespecial 56, 3) := by decide +kernel
theorem dX1_run_22 : decode cX1_run 22 = .ok (.athrow, 1) := by decide +kernel
theorem dX1_run_23 : decode cX1_run 23 = .ok (.aload_n 0, 1) := by decide +kernel
theorem dX1_run_24 : decode cX1_run 24 = .ok (.getfield 208, 3) := by decide +kernel
theorem dX1_run_27 : decode cX1_run 27 = .ok (.ldc 211, 2) := by decide +kernel
theorem dX1_run_29 : decode cX1_run 29 = .ok (.if_icmp .ge 12, 3) := by decide +kernel
theorem dX1_run_32 : decode cX1_run 32 = .ok (.aload_n 0, 1) := by decide +kernel
theorem dX1_run_33 : decode cX1_run 33 = .ok (.getfield 212, 3) := by decide +kernel
theorem dX1_run_36 : decode cX1_run 36 = .ok (.ldc 211, 2) := by decide +kernel
theorem dX1_run_38 : decode cX1_run 38 = .ok (.if_icmp .lt 11, 3) := by decide +kernel
theorem dX1_run_41 : decode cX1_run 41 = .ok (.new 60, 3) := by decide +kernel
theorem dX1_run_44 : decode cX1_run 44 = .ok (.dup, 1) := by decide +kernel
theorem dX1_run_45 : decode cX1_run 45 = .ok (.invokespecial 62, 3) := by decide +kernel
theorem dX1_run_48 : decode cX1_run 48 = .ok (.athrow, 1) := by decide +kernel
theorem dX1_run_49 : decode cX1_run 49 = .ok (.aload_n 0, 1) := by decide +kernel
theorem dX1_run_50 : decode cX1_run 50 = .ok (.getfield 50, 3) := by decide +kernel
theorem dX1_run_53 : decode cX1_run 53 = .ok (.aload_n 0, 1) := by decide +kernel
theorem dX1_run_54 : decode cX1_run 54 = .ok (.getfield 140, 3) := by decide +kernel
theorem dX1_run_57 : decode cX1_run 57 = .ok (.iload_n 1, 1) := by decide +kernel
theorem dX1_run_58 : decode cX1_run 58 = .ok (.iload_n 2, 1) := by decide +kernel
theorem dX1_run_59 : decode cX1_run 59 = .ok (.invokevirtual 215, 3) := by decide +kernel
theorem dX1_run_62 : decode cX1_run 62 = .ok (.aload_n 0, 1) := by decide +kernel
theorem dX1_run_63 : decode cX1_run 63 = .ok (.dup, 1) := by decide +kernel
theorem dX1_run_64 : decode cX1_run 64 = .ok (.getfield 208, 3) := by decide +kernel
theorem dX1_run_67 : decode cX1_run 67 = .ok (.aload_n 0, 1) := by decide +kernel
theorem dX1_run_68 : decode cX1_run 68 = .ok (.getfield 50, 3) := by decide +kernel
theorem dX1_run_71 : decode cX1_run 71 = .ok (.getfield 219, 3) := by decide +kernel
theorem dX1_run_74 : decode cX1_run 74 = .ok (.iadd, 1) := by decide +kernel
theorem dX1_run_75 : decode cX1_run 75 = .ok (.putfield 208, 3) := by decide +kernel
theorem dX1_run_78 : decode cX1_run 78 = .ok (.aload_n 0, 1) := by decide +kernel
theorem dX1_run_79 : decode cX1_run 79 = .ok (.dup, 1) := by decide +kernel
theorem dX1_run_80 : decode cX1_run 80 = .ok (.getfield 212, 3) := by decide +kernel
theorem dX1_run_83 : decode cX1_run 83 = .ok (.aload_n 0, 1) := by decide +kernel
theorem dX1_run_84 : decode cX1_run 84 = .ok (.getfield 50, 3) := by decide +kernel
theorem dX1_run_87 : decode cX1_run 87 = .ok (.getfield 222, 3) := by decide +kernel
theorem dX1_run_90 : decode cX1_run 90 = .ok (.iadd, 1) := by decide +kernel
theorem dX1_run_91 : decode cX1_run 91 = .ok (.putfield 212, 3) := by decide +kernel
theorem dX1_run_94 : decode cX1_run 94 = .ok (.aload_n 0, 1) := by decide +kernel
theorem dX1_run_95 : decode cX1_run 95 = .ok (.getfield 50, 3) := by decide +kernel
theorem dX1_run_98 : decode cX1_run 98 = .ok (.getfield 225, 3) := by decide +kernel
theorem dX1_run_101 : decode cX1_run 101 = .ok (.ireturn, 1) := by decide +kernel
theorem mw_X1_run : MW yX1_run (Cond.code yX1_run cX1_run 3 (Option.some Jvm.ClassFile.FieldType.int)) cX1_run 3 (Option.some Jvm.ClassFile.FieldType.int) 2 := ⟨rfl, ⟨(lw_all_tbl q2148), rfl, (lw_all_tbl q163)⟩, rfl, ⟨by decide, by decide⟩, by decide +kernel⟩
noncomputable def c_X1_run_15  : Mo CH (Nat × Int) :=
  bnd (thr 28) fun x => pr (1, x)
theorem sc_X1_run_15 {Γ : Gm} {ts : TS} {d : Nat} (hX : Xt Γ []) (o : Ok Γ "LazyForge" cX1_run 3 (Option.some Jvm.ClassFile.FieldType.int) (d + 209))   : Sx Γ (fun h => (h, ts)) (fun (a : Nat × Int) s => mt Γ = (a.1, a.2, ((s, ts) : Wd))) 15 [] [] (c_X1_run_15) := by
  unfold c_X1_run_15
  exact s_throw (d := d + 201) o hX mk_28 (by decide) (lw_all_tbl q491) at_28 (by decide +kernel) dX1_run_15 dX1_run_18 dX1_run_19 dX1_run_22 (fun _ _ hh => hh)
noncomputable def c_X1_run_41  : Mo CH (Nat × Int) :=
  bnd (thr 29) fun x => pr (1, x)
theorem sc_X1_run_41 {Γ : Gm} {ts : TS} {d : Nat} (hX : Xt Γ []) (o : Ok Γ "LazyForge" cX1_run 3 (Option.some Jvm.ClassFile.FieldType.int) (d + 209))   : Sx Γ (fun h => (h, ts)) (fun (a : Nat × Int) s => mt Γ = (a.1, a.2, ((s, ts) : Wd))) 41 [] [] (c_X1_run_41) := by
  unfold c_X1_run_41
  exact s_throw (d := d + 201) o hX mk_29 (by decide) (lw_all_tbl q557) at_29 (by decide +kernel) dX1_run_41 dX1_run_44 dX1_run_45 dX1_run_48 (fun _ _ hh => hh)
noncomputable def c_X1_run (l0 : Int) (l1 : Int) (l2 : Int) : Mo CH (Nat × Int) :=
  bnd (isk 101 l0) fun _ =>
  bndX (c_X1_must l0) fun _ =>
  if l2 < 0 then
    c_X1_run_15
  else
    if l2 ≤ 800 then
      bnd (gf [101] 6 l0) fun v2 =>
      if 150000 ≤ v2 then
        c_X1_run_41
      else
        bnd (gf [101] 7 l0) fun v3 =>
        if v3 < 150000 then
          bnd (gf [101] 10 l0) fun v4 =>
          bnd (gf [101] 4 l0) fun v5 =>
          bnd (isk 103 v4) fun _ =>
          bnd (c_X3_run v4 v5 l1 l2) fun _ =>
          bnd (gf [101] 6 l0) fun v6 =>
          bnd (gf [101] 10 l0) fun v7 =>
          bnd (gf [103] 24 v7) fun v8 =>
          bnd (pf [101] 6 l0 (w32 (v6 + v8))) fun _ =>
          bnd (gf [101] 7 l0) fun v9 =>
          bnd (gf [101] 10 l0) fun v10 =>
          bnd (gf [103] 25 v10) fun v11 =>
          bnd (pf [101] 7 l0 (w32 (v9 + v11))) fun _ =>
          bnd (gf [101] 10 l0) fun v12 =>
          bnd (gf [103] 22 v12) fun v13 =>
          pr (0, v13)
        else
          c_X1_run_41
    else
      c_X1_run_15
theorem sc_X1_run (g : gC) (d : Nat) (ts : TS) (l0 : Int) (l1 : Int) (l2 : Int) (hl1 : rg .boolean l1) (hl2 : R32 l2) : SX g yX1_run (Cond.code yX1_run cX1_run 3 (Option.some Jvm.ClassFile.FieldType.int)) (Option.some Jvm.ClassFile.FieldType.int) (d + 209) [vA g l0, vI l1, vI l2] (fun h => (h, ts)) (c_X1_run l0 l1 l2) := by
  refine SX.of (lv := [(0, vA g l0), (1, vI l1), (2, vI l2)]) (by decide) (wt_A (wt_I (wt_I wt_0))) rfl (by simp only [la_A, la_I, la_J, la_0]) (fun Γ hg hnm o hX => ?_)
  subst hg
  have o : Ok Γ "LazyForge" cX1_run 3 (Option.some Jvm.ClassFile.FieldType.int) (d + 209) := o
  unfold c_X1_run
  refine s_aload_n o dX1_run_0 rfl 0 rfl ?_
  refine s_cvX (d := d + 208) (As := []) (st := []) (c := 1) o hX (sc_X1_must (mg Γ) (d + 200) ts l0) mw_X1_must rfl (lw_all_tbl q1909) rfl (lw_all_tbl qs47) (lw_all_tbl q1911) wt_0 rfl dX1_run_1 rfl (rs := fun _ => []) (fun _ => rfl) (fun _ _ hh => hh) (fun _ _ => ?_)
  refine s_iload_n o dX1_run_4 rfl 2 rfl ?_
  refine s_if_lt (tgt := 15) o dX1_run_5 (by decide) hl2 ?_ ?_
  · refine r_to [] [] rfl ?_
    exact sc_X1_run_15 hX o
  · refine s_iload_n o dX1_run_8 rfl 2 rfl ?_
    refine s_sipush o dX1_run_9 rfl ?_
    refine s_icmp_le (tgt := 23) o dX1_run_12 (by decide) hl2 (r32 rfl) ?_ ?_
    · refine s_aload_n o dX1_run_23 rfl 0 rfl ?_
      refine r_getf vI rfl o cf_X1_allCalls (Or.inl (lw_all_tbl q447)) dX1_run_24 (fun v2 hv2 => ?_)
      refine s_ldc (n := 150000) o dX1_run_27 (lw_all_tbl q2149) rfl ?_
      refine s_icmp_ge (tgt := 41) o dX1_run_29 (by decide) hv2 (r32 rfl) ?_ ?_
      · refine r_to [] [] rfl ?_
        exact sc_X1_run_41 hX o
      · refine s_aload_n o dX1_run_32 rfl 0 rfl ?_
        refine r_getf vI rfl o cf_X1_allCells (Or.inl (lw_all_tbl q448)) dX1_run_33 (fun v3 hv3 => ?_)
        refine s_ldc (n := 150000) o dX1_run_36 (lw_all_tbl q2149) rfl ?_
        refine s_icmp_lt (tgt := 49) o dX1_run_38 (by decide) hv3 (r32 rfl) ?_ ?_
        · refine s_aload_n o dX1_run_49 rfl 0 rfl ?_
          refine r_getf (vA (mg Γ)) rfl o cf_X1_machine (Or.inl (lw_all_tbl q451)) dX1_run_50 (fun v4 hv4 => ?_)
          refine s_aload_n o dX1_run_53 rfl 0 rfl ?_
          refine r_getf (vA (mg Γ)) rfl o cf_X1_program (Or.inl (lw_all_tbl q444)) dX1_run_54 (fun v5 hv5 => ?_)
          refine s_iload_n o dX1_run_57 rfl 1 rfl ?_
          refine s_iload_n o dX1_run_58 rfl 2 rfl ?_
          refine s_cvC (d := d + 208) (As := [vA (mg Γ) v5, vI l1, vI l2]) (st := []) (c := 3) o (sc_X3_run (mg Γ) d ts v4 v5 l1 l2 hl1 hl2) mw_X3_run rfl (Or.inl (lw_all_tbl q2150)) rfl (lw_all_tbl q2152) (lw_all_tbl q2151) wt_0 rfl dX1_run_59 rfl (rs := fun _ => []) (fun _ => rfl) (fun _ _ => ?_)
          refine s_aload_n o dX1_run_62 rfl 0 rfl ?_
          refine s_dup o dX1_run_63 (vA_cat (mg Γ) l0) ?_
          refine r_getf vI rfl o cf_X1_allCalls (Or.inl (lw_all_tbl q447)) dX1_run_64 (fun v6 hv6 => ?_)
          refine s_aload_n o dX1_run_67 rfl 0 rfl ?_
          refine r_getf (vA (mg Γ)) rfl o cf_X1_machine (Or.inl (lw_all_tbl q451)) dX1_run_68 (fun v7 hv7 => ?_)
          refine r_getf vI rfl o cf_X3_calls (Or.inr (Or.inl ⟨_, q359⟩)) dX1_run_71 (fun v8 hv8 => ?_)
          refine s_iadd o dX1_run_74 ?_
          refine r_putf vI rfl o cf_X1_allCalls (Or.inl (lw_all_tbl q447)) dX1_run_75 (Or.inl rfl) (w32_R _) ty_int ?_
          refine s_aload_n o dX1_run_78 rfl 0 rfl ?_
          refine s_dup o dX1_run_79 (vA_cat (mg Γ) l0) ?_
          refine r_getf vI rfl o cf_X1_allCells (Or.inl (lw_all_tbl q448)) dX1_run_80 (fun v9 hv9 => ?_)
          refine s_aload_n o dX1_run_83 rfl 0 rfl ?_
          refine r_getf (vA (mg Γ)) rfl o cf_X1_machine (Or.inl (lw_all_tbl q451)) dX1_run_84 (fun v10 hv10 => ?_)
          refine r_getf vI rfl o cf_X3_used (Or.inr (Or.inl ⟨_, q362⟩)) dX1_run_87 (fun v11 hv11 => ?_)
          refine s_iadd o dX1_run_90 ?_
          refine r_putf vI rfl o cf_X1_allCells (Or.inl (lw_all_tbl q448)) dX1_run_91 (Or.inl rfl) (w32_R _) ty_int ?_
          refine s_aload_n o dX1_run_94 rfl 0 rfl ?_
          refine r_getf (vA (mg Γ)) rfl o cf_X1_machine (Or.inl (lw_all_tbl q451)) dX1_run_95 (fun v12 hv12 => ?_)
          refine r_getf vI rfl o cf_X3_ends (Or.inr (Or.inl ⟨_, q356⟩)) dX1_run_98 (fun v13 hv13 => ?_)
          exact s_iret o rfl i_int hv13 dX1_run_101 (fun _ hh => hh)
        · refine r_to [] [] rfl ?_
          exact sc_X1_run_41 hX o
    · refine r_to [] [] rfl ?_
      exact sc_X1_run_15 hX o
theorem dX1_bit_0 : decode cX1_bit 0 = .ok (.aload_n 0, 1) := by decide +kernel
theorem dX1_bit_1 : decode cX1_bit 1 = .ok (.iload_n 1, 1) := by decide +kernel
theorem dX1_bit_2 : decode cX1_bit 2 = .ok (.invokevirtual 187, 3) := by decide +kernel
theorem dX1_bit_5 : decode cX1_bit 5 = .ok (.astore_n 3, 1) := by decide +kernel
theorem dX1_bit_6 : decode cX1_bit 6 = .ok (.iload_n 2, 1) := by decide +kernel
theorem dX1_bit_7 : decode cX1_bit 7 = .ok (.ifCond .lt 13, 3) := by decide +kernel
theorem dX1_bit_10 : decode cX1_bit 10 = .ok (.iload_n 2, 1) := by decide +kernel
theorem dX1_bit_11 : decode cX1_bit 11 = .ok (.iconst 1, 1) := by decide +kernel
theorem dX1_bit_12 : decode cX1_bit 12 = .ok (.aload_n 3, 1) := by decide +kernel
theorem dX1_bit_13 : decode cX1_bit 13 = .ok (.invokevirtual 90, 3) := by decide +kernel
theorem dX1_bit_16 : decode cX1_bit 16 = .ok (.ishl, 1) := by decide +kernel
theorem dX1_bit_17 : decode cX1_bit 17 = .ok (.if_icmp .lt 11, 3) := by decide +kernel
theorem dX1_bit_20 : decode cX1_bit 20 = .ok (.new 54, 3) := by decide +kernel
theorem dX1_bit_23 : decode cX1_bit 23 = .ok (.dup, 1) := by decide +kernel
theorem dX1_bit_24 : decode cX1_bit 24 = .ok (.invokespecial 56, 3) := by decide +kernel
theorem dX1_bit_27 : decode cX1_bit 27 = .ok (.athrow, 1) := by decide +kernel
theorem dX1_bit_28 : decode cX1_bit 28 = .ok (.aload_n 3, 1) := by decide +kernel
theorem dX1_bit_29 : decode cX1_bit 29 = .ok (.iload_n 2, 1) := by decide +kernel
theorem dX1_bit_30 : decode cX1_bit 30 = .ok (.invokevirtual 108, 3) := by decide +kernel
theorem dX1_bit_33 : decode cX1_bit 33 = .ok (.ifCond .eq 7, 3) := by decide +kernel
theorem dX1_bit_36 : decode cX1_bit 36 = .ok (.iconst 1, 1) := by decide +kernel
theorem dX1_bit_37 : decode cX1_bit 37 = .ok (.goto 4, 3) := by decide +kernel
theorem dX1_bit_40 : decode cX1_bit 40 = .ok (.iconst 0, 1) := by decide +kernel
theorem dX1_bit_41 : decode cX1_bit 41 = .ok (.ireturn, 1) := by decide +kernel
theorem mw_X1_bit : MW yX1_bit (Cond.code yX1_bit cX1_bit 4 (Option.some Jvm.ClassFile.FieldType.int)) cX1_bit 4 (Option.some Jvm.ClassFile.FieldType.int) 2 := ⟨rfl, ⟨(lw_all_tbl q2141), rfl, (lw_all_tbl q163)⟩, rfl, ⟨by decide, by decide⟩, by decide +kernel⟩
noncomputable def c_X1_bit_20  : Mo CH (Nat × Int) :=
  bnd (thr 28) fun x => pr (1, x)
theorem sc_X1_bit_20 {Γ : Gm} {ts : TS} {d : Nat} (hX : Xt Γ []) (o : Ok Γ "LazyForge" cX1_bit 4 (Option.some Jvm.ClassFile.FieldType.int) (d + 10))   : Sx Γ (fun h => (h, ts)) (fun (a : Nat × Int) s => mt Γ = (a.1, a.2, ((s, ts) : Wd))) 20 [] [] (c_X1_bit_20) := by
  unfold c_X1_bit_20
  exact s_throw (d := d + 2) o hX mk_28 (by decide) (lw_all_tbl q491) at_28 (by decide +kernel) dX1_bit_20 dX1_bit_23 dX1_bit_24 dX1_bit_27 (fun _ _ hh => hh)
noncomputable def c_X1_bit (l0 : Int) (l1 : Int) (l2 : Int) : Mo CH (Nat × Int) :=
  bnd (isk 101 l0) fun _ =>
  bndX (c_X1_find l0 l1) fun v1 =>
  if l2 < 0 then
    c_X1_bit_20
  else
    bnd (isk 116 v1) fun _ =>
    bnd (c_X16_parameters v1) fun v2 =>
    if l2 < (ishl 1 v2) then
      bnd (isk 116 v1) fun _ =>
      bnd (c_X16_at v1 l2) fun v3 =>
      if v3 = 0 then
        pr (0, 0)
      else
        pr (0, 1)
    else
      c_X1_bit_20
theorem sc_X1_bit (g : gC) (d : Nat) (ts : TS) (l0 : Int) (l1 : Int) (l2 : Int) (hl1 : R32 l1) (hl2 : R32 l2) : SX g yX1_bit (Cond.code yX1_bit cX1_bit 4 (Option.some Jvm.ClassFile.FieldType.int)) (Option.some Jvm.ClassFile.FieldType.int) (d + 10) [vA g l0, vI l1, vI l2] (fun h => (h, ts)) (c_X1_bit l0 l1 l2) := by
  refine SX.of (lv := [(0, vA g l0), (1, vI l1), (2, vI l2)]) (by decide) (wt_A (wt_I (wt_I wt_0))) rfl (by simp only [la_A, la_I, la_J, la_0]) (fun Γ hg hnm o hX => ?_)
  subst hg
  have o : Ok Γ "LazyForge" cX1_bit 4 (Option.some Jvm.ClassFile.FieldType.int) (d + 10) := o
  unfold c_X1_bit
  refine s_aload_n o dX1_bit_0 rfl 0 rfl ?_
  refine s_iload_n o dX1_bit_1 rfl 1 rfl ?_
  refine s_cvX (d := d + 9) (As := [vI l1]) (st := []) (c := 1) o hX (sc_X1_find (mg Γ) d ts l0 l1 hl1) mw_X1_find rfl (lw_all_tbl q2119) rfl (lw_all_tbl qs48) (lw_all_tbl q2121) wt_0 rfl dX1_bit_2 rfl (rs := fun r => [vA (mg Γ) r]) (fun _ => rfl) (fun _ _ hh => hh) (fun v1 hv1 => ?_)
  refine r_astore_n o dX1_bit_5 rfl rfl ⟨(Nat.ne_of_beq_eq_false rfl), (fun _ => (vA_cat (mg Γ) l0)), ⟨(Nat.ne_of_beq_eq_false rfl), (fun _ => rfl), ⟨(Nat.ne_of_beq_eq_false rfl), (fun _ => rfl), trivial⟩⟩⟩ ?_
  refine s_iload_n o dX1_bit_6 rfl 3 rfl ?_
  refine s_if_lt (tgt := 20) o dX1_bit_7 (by decide) hl2 ?_ ?_
  · refine r_to [] [] rfl ?_
    exact sc_X1_bit_20 hX o
  · refine s_iload_n o dX1_bit_10 rfl 3 rfl ?_
    refine s_iconst o dX1_bit_11 ?_
    refine s_aload_n o dX1_bit_12 rfl 0 rfl ?_
    refine s_cvC (d := d + 9) (As := []) (st := [vI 1, vI l2]) (c := 16) o (sc_X16_parameters (mg Γ) (d + 8) ts v1) mw_X16_parameters rfl (Or.inl (lw_all_tbl q1634)) rfl (lw_all_tbl q1606) (lw_all_tbl q1605) (wt_I (wt_I wt_0)) rfl dX1_bit_13 rfl (rs := fun r => [vI r, vI 1, vI l2]) (fun _ => rfl) (fun v2 hv2 => ?_)
    refine s_ishl o dX1_bit_16 ?_
    refine s_icmp_lt (tgt := 28) o dX1_bit_17 (by decide) hl2 (ishl_R _ _) ?_ ?_
    · refine s_aload_n o dX1_bit_28 rfl 0 rfl ?_
      refine s_iload_n o dX1_bit_29 rfl 3 rfl ?_
      refine s_cvC (d := d + 9) (As := [vI l2]) (st := []) (c := 16) o (sc_X16_at (mg Γ) (d + 9) ts v1 l2 hl2) mw_X16_at rfl (Or.inl (lw_all_tbl q1638)) rfl (lw_all_tbl q1640) (lw_all_tbl q1639) wt_0 rfl dX1_bit_30 rfl (rs := fun r => [vI r]) (fun _ => rfl) (fun v3 hv3 => ?_)
      refine s_if_eq (tgt := 40) o dX1_bit_33 (by decide) (rZ (hv3 _ rfl)) ?_ ?_
      · refine s_iconst o dX1_bit_40 ?_
        exact s_iret o rfl i_int (r32 rfl) dX1_bit_41 (fun _ hh => hh)
      · refine s_iconst o dX1_bit_36 ?_
        refine s_goto (tgt := 41) o dX1_bit_37 (by decide) ?_
        exact s_iret o rfl i_int (r32 rfl) dX1_bit_41 (fun _ hh => hh)
    · refine r_to [] [] rfl ?_
      exact sc_X1_bit_20 hX o
theorem dX1_needs_0 : decode cX1_needs 0 = .ok (.aload_n 0, 1) := by decide +kernel
theorem dX1_needs_1 : decode cX1_needs 1 = .ok (.iload_n 1, 1) := by decide +kernel
theorem dX1_needs_2 : decode cX1_needs 2 = .ok (.invokevirtual 187, 3) := by decide +kernel
theorem dX1_needs_5 : decode cX1_needs 5 = .ok (.astore_n 3, 1) := by decide +kernel
theorem dX1_needs_6 : decode cX1_needs 6 = .ok (.iload_n 2, 1) := by decide +kernel
theorem dX1_needs_7 : decode cX1_needs 7 = .ok (.ifCond .lt 11, 3) := by decide +kernel
theorem dX1_needs_10 : decode cX1_needs 10 = .ok (.iload_n 2, 1) := by decide +kernel
theorem dX1_needs_11 : decode cX1_needs 11 = .ok (.aload_n 3, 1) := by decide +kernel
theorem dX1_needs_12 : decode cX1_needs 12 = .ok (.invokevirtual 90, 3) := by decide +kernel
theorem dX1_needs_15 : decode cX1_needs 15 = .ok (.if_icmp .lt 11, 3) := by decide +kernel
theorem dX1_needs_18 : decode cX1_needs 18 = .ok (.new 181, 3) := by decide +kernel
theorem dX1_needs_21 : decode cX1_needs 21 = .ok (.dup, 1) := by decide +kernel
theorem dX1_needs_22 : decode cX1_needs 22 = .ok (.invokespecial 183, 3) := by decide +kernel
theorem dX1_needs_25 : decode cX1_needs 25 = .ok (.athrow, 1) := by decide +kernel
theorem dX1_needs_26 : decode cX1_needs 26 = .ok (.aload_n 3, 1) := by decide +kernel
theorem dX1_needs_27 : decode cX1_needs 27 = .ok (.iload_n 2, 1) := by decide +kernel
theorem dX1_needs_28 : decode cX1_needs 28 = .ok (.invokevirtual 206, 3) := by decide +kernel
theorem dX1_needs_31 : decode cX1_needs 31 = .ok (.ireturn, 1) := by decide +kernel
theorem mw_X1_needs : MW yX1_needs (Cond.code yX1_needs cX1_needs 4 (Option.some Jvm.ClassFile.FieldType.boolean)) cX1_needs 4 (Option.some Jvm.ClassFile.FieldType.boolean) 2 := ⟨rfl, ⟨(lw_all_tbl q2130), rfl, (lw_all_tbl q163)⟩, rfl, ⟨by decide, by decide⟩, by decide +kernel⟩
noncomputable def c_X1_needs_18  : Mo CH (Nat × Int) :=
  bnd (thr 31) fun x => pr (1, x)
theorem sc_X1_needs_18 {Γ : Gm} {ts : TS} {d : Nat} (hX : Xt Γ []) (o : Ok Γ "LazyForge" cX1_needs 4 (Option.some Jvm.ClassFile.FieldType.boolean) (d + 10))   : Sx Γ (fun h => (h, ts)) (fun (a : Nat × Int) s => mt Γ = (a.1, a.2, ((s, ts) : Wd))) 18 [] [] (c_X1_needs_18) := by
  unfold c_X1_needs_18
  exact s_throw (d := d + 2) o hX mk_31 (by decide) (lw_all_tbl q2097) at_31 (by decide +kernel) dX1_needs_18 dX1_needs_21 dX1_needs_22 dX1_needs_25 (fun _ _ hh => hh)
noncomputable def c_X1_needs (l0 : Int) (l1 : Int) (l2 : Int) : Mo CH (Nat × Int) :=
  bnd (isk 101 l0) fun _ =>
  bndX (c_X1_find l0 l1) fun v1 =>
  if l2 < 0 then
    c_X1_needs_18
  else
    bnd (isk 116 v1) fun _ =>
    bnd (c_X16_parameters v1) fun v2 =>
    if l2 < v2 then
      bnd (isk 116 v1) fun _ =>
      bnd (c_X16_needs v1 l2) fun v3 =>
      pr (0, v3)
    else
      c_X1_needs_18
theorem sc_X1_needs (g : gC) (d : Nat) (ts : TS) (l0 : Int) (l1 : Int) (l2 : Int) (hl1 : R32 l1) (hl2 : R32 l2) : SX g yX1_needs (Cond.code yX1_needs cX1_needs 4 (Option.some Jvm.ClassFile.FieldType.boolean)) (Option.some Jvm.ClassFile.FieldType.boolean) (d + 10) [vA g l0, vI l1, vI l2] (fun h => (h, ts)) (c_X1_needs l0 l1 l2) := by
  refine SX.of (lv := [(0, vA g l0), (1, vI l1), (2, vI l2)]) (by decide) (wt_A (wt_I (wt_I wt_0))) rfl (by simp only [la_A, la_I, la_J, la_0]) (fun Γ hg hnm o hX => ?_)
  subst hg
  have o : Ok Γ "LazyForge" cX1_needs 4 (Option.some Jvm.ClassFile.FieldType.boolean) (d + 10) := o
  unfold c_X1_needs
  refine s_aload_n o dX1_needs_0 rfl 0 rfl ?_
  refine s_iload_n o dX1_needs_1 rfl 1 rfl ?_
  refine s_cvX (d := d + 9) (As := [vI l1]) (st := []) (c := 1) o hX (sc_X1_find (mg Γ) d ts l0 l1 hl1) mw_X1_find rfl (lw_all_tbl q2119) rfl (lw_all_tbl qs48) (lw_all_tbl q2121) wt_0 rfl dX1_needs_2 rfl (rs := fun r => [vA (mg Γ) r]) (fun _ => rfl) (fun _ _ hh => hh) (fun v1 hv1 => ?_)
  refine r_astore_n o dX1_needs_5 rfl rfl ⟨(Nat.ne_of_beq_eq_false rfl), (fun _ => (vA_cat (mg Γ) l0)), ⟨(Nat.ne_of_beq_eq_false rfl), (fun _ => rfl), ⟨(Nat.ne_of_beq_eq_false rfl), (fun _ => rfl), trivial⟩⟩⟩ ?_
  refine s_iload_n o dX1_needs_6 rfl 3 rfl ?_
  refine s_if_lt (tgt := 18) o dX1_needs_7 (by decide) hl2 ?_ ?_
  · refine r_to [] [] rfl ?_
    exact sc_X1_needs_18 hX o
  · refine s_iload_n o dX1_needs_10 rfl 3 rfl ?_
    refine s_aload_n o dX1_needs_11 rfl 0 rfl ?_
    refine s_cvC (d := d + 9) (As := []) (st := [vI l2]) (c := 16) o (sc_X16_parameters (mg Γ) (d + 8) ts v1) mw_X16_parameters rfl (Or.inl (lw_all_tbl q1634)) rfl (lw_all_tbl q1606) (lw_all_tbl q1605) (wt_I wt_0) rfl dX1_needs_12 rfl (rs := fun r => [vI r, vI l2]) (fun _ => rfl) (fun v2 hv2 => ?_)
    refine s_icmp_lt (tgt := 26) o dX1_needs_15 (by decide) hl2 (hv2 _ rfl) ?_ ?_
    · refine s_aload_n o dX1_needs_26 rfl 0 rfl ?_
      refine s_iload_n o dX1_needs_27 rfl 3 rfl ?_
      refine s_cvC (d := d + 9) (As := [vI l2]) (st := []) (c := 16) o (sc_X16_needs (mg Γ) (d + 9) ts v1 l2 hl2) mw_X16_needs rfl (Or.inl (lw_all_tbl q2131)) rfl (lw_all_tbl q2133) (lw_all_tbl q2132) wt_0 rfl dX1_needs_28 rfl (rs := fun r => [vI r]) (fun _ => rfl) (fun v3 hv3 => ?_)
      exact s_iret o rfl i_boolean (hv3 _ rfl) dX1_needs_31 (fun _ hh => hh)
    · refine r_to [] [] rfl ?_
      exact sc_X1_needs_18 hX o
theorem dX1_function_0 : decode cX1_function 0 = .ok (.aload_n 0, 1) := by decide +kernel
theorem dX1_function_1 : decode cX1_function 1 = .ok (.iload_n 1, 1) := by decide +kernel
theorem dX1_function_2 : decode cX1_function 2 = .ok (.invokevirtual 187, 3) := by decide +kernel
theorem dX1_function_5 : decode cX1_function 5 = .ok (.astore_n 3, 1) := by decide +kernel
theorem dX1_function_6 : decode cX1_function 6 = .ok (.iload_n 2, 1) := by decide +kernel
theorem dX1_function_7 : decode cX1_function 7 = .ok (.tableswitch 76 0 5 #[37, 42, 50, 55, 63, 68], 37) := by decide +kernel
theorem dX1_function_44 : decode cX1_function 44 = .ok (.aload_n 3, 1) := by decide +kernel
theorem dX1_function_45 : decode cX1_function 45 = .ok (.invokevirtual 90, 3) := by decide +kernel
theorem dX1_function_48 : decode cX1_function 48 = .ok (.ireturn, 1) := by decide +kernel
theorem dX1_function_49 : decode cX1_function 49 = .ok (.aload_n 3, 1) := by decide +kernel
theorem dX1_function_50 : decode cX1_function 50 = .ok (.getfield 191, 3) := by decide +kernel
theorem dX1_function_53 : decode cX1_function 53 = .ok (.invokevirtual 79, 3) := by decide +kernel
theorem dX1_function_56 : decode cX1_function 56 = .ok (.ireturn, 1) := by decide +kernel
theorem dX1_function_57 : decode cX1_function 57 = .ok (.aload_n 3, 1) := by decide +kernel
theorem dX1_function_58 : decode cX1_function 58 = .ok (.invokevirtual 194, 3) := by decide +kernel
theorem dX1_function_61 : decode cX1_function 61 = .ok (.ireturn, 1) := by decide +kernel
theorem dX1_function_62 : decode cX1_function 62 = .ok (.aload_n 3, 1) := by decide +kernel
theorem dX1_function_63 : decode cX1_function 63 = .ok (.getfield 112, 3) := by decide +kernel
theorem dX1_function_66 : decode cX1_function 66 = .ok (.getfield 197, 3) := by decide +kernel
theorem dX1_function_69 : decode cX1_function 69 = .ok (.ireturn, 1) := by decide +kernel
theorem dX1_function_70 : decode cX1_function 70 = .ok (.aload_n 3, 1) := by decide +kernel
theorem dX1_function_71 : decode cX1_function 71 = .ok (.getfield 200, 3) := by decide +kernel
theorem dX1_function_74 : decode cX1_function 74 = .ok (.ireturn, 1) := by decide +kernel
theorem dX1_function_75 : decode cX1_function 75 = .ok (.aload_n 3, 1) := by decide +kernel
theorem dX1_function_76 : decode cX1_function 76 = .ok (.getfield 112, 3) := by decide +kernel
theorem dX1_function_79 : decode cX1_function 79 = .ok (.getfield 203, 3) := by decide +kernel
theorem dX1_function_82 : decode cX1_function 82 = .ok (.ireturn, 1) := by decide +kernel
theorem dX1_function_83 : decode cX1_function 83 = .ok (.new 54, 3) := by decide +kernel
theorem dX1_function_86 : decode cX1_function 86 = .ok (.dup, 1) := by decide +kernel
theorem dX1_function_87 : decode cX1_function 87 = .ok (.invokespecial 56, 3) := by decide +kernel
theorem dX1_function_90 : decode cX1_function 90 = .ok (.athrow, 1) := by decide +kernel
theorem mw_X1_function : MW yX1_function (Cond.code yX1_function cX1_function 4 (Option.some Jvm.ClassFile.FieldType.int)) cX1_function 4 (Option.some Jvm.ClassFile.FieldType.int) 2 := ⟨rfl, ⟨(lw_all_tbl q2118), rfl, (lw_all_tbl q163)⟩, rfl, ⟨by decide, by decide⟩, by decide +kernel⟩
noncomputable def c_X1_function (l0 : Int) (l1 : Int) (l2 : Int) : Mo CH (Nat × Int) :=
  bnd (isk 101 l0) fun _ =>
  bndX (c_X1_find l0 l1) fun v1 =>
  if l2 = 0 then
    bnd (isk 116 v1) fun _ =>
    bnd (c_X16_parameters v1) fun v3 =>
    pr (0, v3)
  else
    if l2 = 1 then
      bnd (gf [116] 4 v1) fun v5 =>
      bnd (isk 127 v5) fun _ =>
      bnd (c_J13_size v5) fun v6 =>
      pr (0, v6)
    else
      if l2 = 2 then
        bnd (isk 116 v1) fun _ =>
        bnd (c_X16_variables v1) fun v8 =>
        pr (0, v8)
      else
        if l2 = 3 then
          bnd (gf [116] 6 v1) fun v10 =>
          bnd (gf [106, 107, 108, 109, 110, 118, 119, 120, 121, 122, 123, 124, 125, 126] 0 v10) fun v11 =>
          pr (0, v11)
        else
          if l2 = 4 then
            bnd (gf [116] 7 v1) fun v13 =>
            pr (0, v13)
          else
            if l2 = 5 then
              bnd (gf [116] 6 v1) fun v15 =>
              bnd (gf [106, 107, 108, 109, 110, 118, 119, 120, 121, 122, 123, 124, 125, 126] 1 v15) fun v16 =>
              pr (0, v16)
            else
              bnd (thr 28) fun x => pr (1, x)
theorem sc_X1_function (g : gC) (d : Nat) (ts : TS) (l0 : Int) (l1 : Int) (l2 : Int) (hl1 : R32 l1) (hl2 : R32 l2) : SX g yX1_function (Cond.code yX1_function cX1_function 4 (Option.some Jvm.ClassFile.FieldType.int)) (Option.some Jvm.ClassFile.FieldType.int) (d + 10) [vA g l0, vI l1, vI l2] (fun h => (h, ts)) (c_X1_function l0 l1 l2) := by
  refine SX.of (lv := [(0, vA g l0), (1, vI l1), (2, vI l2)]) (by decide) (wt_A (wt_I (wt_I wt_0))) rfl (by simp only [la_A, la_I, la_J, la_0]) (fun Γ hg hnm o hX => ?_)
  subst hg
  have o : Ok Γ "LazyForge" cX1_function 4 (Option.some Jvm.ClassFile.FieldType.int) (d + 10) := o
  unfold c_X1_function
  refine s_aload_n o dX1_function_0 rfl 0 rfl ?_
  refine s_iload_n o dX1_function_1 rfl 1 rfl ?_
  refine s_cvX (d := d + 9) (As := [vI l1]) (st := []) (c := 1) o hX (sc_X1_find (mg Γ) d ts l0 l1 hl1) mw_X1_find rfl (lw_all_tbl q2119) rfl (lw_all_tbl qs48) (lw_all_tbl q2121) wt_0 rfl dX1_function_2 rfl (rs := fun r => [vA (mg Γ) r]) (fun _ => rfl) (fun _ _ hh => hh) (fun v1 hv1 => ?_)
  refine r_astore_n o dX1_function_5 rfl rfl ⟨(Nat.ne_of_beq_eq_false rfl), (fun _ => (vA_cat (mg Γ) l0)), ⟨(Nat.ne_of_beq_eq_false rfl), (fun _ => rfl), ⟨(Nat.ne_of_beq_eq_false rfl), (fun _ => rfl), trivial⟩⟩⟩ ?_
  refine s_iload_n o dX1_function_6 rfl 3 rfl ?_
  refine s_case (P := True) (fun e1 => ?_) (fun e1 => ?_)
  · refine s_tabE o e1 dX1_function_7 (r32 rfl) rfl rfl (tgt := 44) (by decide) ?_
    refine s_aload_n o dX1_function_44 rfl 0 rfl ?_
    refine s_cvC (d := d + 9) (As := []) (st := []) (c := 16) o (sc_X16_parameters (mg Γ) (d + 8) ts v1) mw_X16_parameters rfl (Or.inl (lw_all_tbl q1634)) rfl (lw_all_tbl q1606) (lw_all_tbl q1605) wt_0 rfl dX1_function_45 rfl (rs := fun r => [vI r]) (fun _ => rfl) (fun v3 hv3 => ?_)
    exact s_iret o rfl i_int (hv3 _ rfl) dX1_function_48 (fun _ hh => hh)
  · refine s_case (P := True) (fun e3 => ?_) (fun e3 => ?_)
    · refine s_tabE o e3 dX1_function_7 (r32 rfl) rfl rfl (tgt := 49) (by decide) ?_
      refine s_aload_n o dX1_function_49 rfl 0 rfl ?_
      refine r_getf (vA (mg Γ)) rfl o cf_X16_free (Or.inr (Or.inl ⟨_, q1156⟩)) dX1_function_50 (fun v5 hv5 => ?_)
      refine s_cvC (d := d + 9) (As := []) (st := []) (c := 27) o (sc_J13_size (mg Γ) (d + 9) ts v5) mw_J13_size rfl (Or.inl (lw_all_tbl q1631)) rfl (lw_all_tbl q1359) (lw_all_tbl q1358) wt_0 rfl dX1_function_53 rfl (rs := fun r => [vI r]) (fun _ => rfl) (fun v6 hv6 => ?_)
      exact s_iret o rfl i_int (hv6 _ rfl) dX1_function_56 (fun _ hh => hh)
    · refine s_case (P := True) (fun e6 => ?_) (fun e6 => ?_)
      · refine s_tabE o e6 dX1_function_7 (r32 rfl) rfl rfl (tgt := 57) (by decide) ?_
        refine s_aload_n o dX1_function_57 rfl 0 rfl ?_
        refine s_cvC (d := d + 9) (As := []) (st := []) (c := 16) o (sc_X16_variables (mg Γ) (d + 7) ts v1) mw_X16_variables rfl (Or.inl (lw_all_tbl q2123)) rfl (lw_all_tbl q1617) (lw_all_tbl q1616) wt_0 rfl dX1_function_58 rfl (rs := fun r => [vI r]) (fun _ => rfl) (fun v8 hv8 => ?_)
        exact s_iret o rfl i_int (hv8 _ rfl) dX1_function_61 (fun _ hh => hh)
      · refine s_case (P := True) (fun e8 => ?_) (fun e8 => ?_)
        · refine s_tabE o e8 dX1_function_7 (r32 rfl) rfl rfl (tgt := 62) (by decide) ?_
          refine s_aload_n o dX1_function_62 rfl 0 rfl ?_
          refine r_getf (vA (mg Γ)) rfl o cf_X16_body (Or.inr (Or.inl ⟨_, q1160⟩)) dX1_function_63 (fun v10 hv10 => ?_)
          refine r_getf vI rfl o cf_X4_parts (Or.inr (Or.inl ⟨_, q256⟩)) dX1_function_66 (fun v11 hv11 => ?_)
          exact s_iret o rfl i_int hv11 dX1_function_69 (fun _ hh => hh)
        · refine s_case (P := True) (fun e11 => ?_) (fun e11 => ?_)
          · refine s_tabE o e11 dX1_function_7 (r32 rfl) rfl rfl (tgt := 70) (by decide) ?_
            refine s_aload_n o dX1_function_70 rfl 0 rfl ?_
            refine r_getf vI rfl o cf_X16_needed (Or.inr (Or.inl ⟨_, q1163⟩)) dX1_function_71 (fun v13 hv13 => ?_)
            exact s_iret o rfl i_int hv13 dX1_function_74 (fun _ hh => hh)
          · refine s_case (P := True) (fun e13 => ?_) (fun e13 => ?_)
            · refine s_tabE o e13 dX1_function_7 (r32 rfl) rfl rfl (tgt := 75) (by decide) ?_
              refine s_aload_n o dX1_function_75 rfl 0 rfl ?_
              refine r_getf (vA (mg Γ)) rfl o cf_X16_body (Or.inr (Or.inl ⟨_, q1160⟩)) dX1_function_76 (fun v15 hv15 => ?_)
              refine r_getf vI rfl o cf_X4_high (Or.inr (Or.inl ⟨_, q259⟩)) dX1_function_79 (fun v16 hv16 => ?_)
              exact s_iret o rfl i_int hv16 dX1_function_82 (fun _ hh => hh)
            · refine s_tabOut o dX1_function_7 hl2 (by omega) (tgt := 83) (by decide) ?_
              exact s_throw (d := d + 2) o hX mk_28 (by decide) (lw_all_tbl q491) at_28 (by decide +kernel) dX1_function_83 dX1_function_86 dX1_function_87 dX1_function_90 (fun _ _ hh => hh)
theorem dX1_letter_0 : decode cX1_letter 0 = .ok (.iload_n 1, 1) := by decide +kernel
theorem dX1_letter_1 : decode cX1_letter 1 = .ok (.ifCond .ge 11, 3) := by decide +kernel
theorem dX1_letter_4 : decode cX1_letter 4 = .ok (.new 181, 3) := by decide +kernel
theorem dX1_letter_7 : decode cX1_letter 7 = .ok (.dup, 1) := by decide +kernel
theorem dX1_letter_8 : decode cX1_letter 8 = .ok (.invokespecial 183, 3) := by decide +kernel
theorem dX1_letter_11 : decode cX1_letter 11 = .ok (.athrow, 1) := by decide +kernel
theorem dX1_letter_12 : decode cX1_letter 12 = .ok (.iload_n 1, 1) := by decide +kernel
theorem dX1_letter_13 : decode cX1_letter 13 = .ok (.aload_n 0, 1) := by decide +kernel
theorem dX1_letter_14 : decode cX1_letter 14 = .ok (.getfield 40, 3) := by decide +kernel
theorem dX1_letter_17 : decode cX1_letter 17 = .ok (.getfield 63, 3) := by decide +kernel
theorem dX1_letter_20 : decode cX1_letter 20 = .ok (.if_icmp .ge 15, 3) := by decide +kernel
theorem dX1_letter_23 : decode cX1_letter 23 = .ok (.aload_n 0, 1) := by decide +kernel
theorem dX1_letter_24 : decode cX1_letter 24 = .ok (.getfield 40, 3) := by decide +kernel
theorem dX1_letter_27 : decode cX1_letter 27 = .ok (.getfield 64, 3) := by decide +kernel
theorem dX1_letter_30 : decode cX1_letter 30 = .ok (.iload_n 1, 1) := by decide +kernel
theorem dX1_letter_31 : decode cX1_letter 31 = .ok (.caload, 1) := by decide +kernel
theorem dX1_letter_32 : decode cX1_letter 32 = .ok (.goto 4, 3) := by decide +kernel
theorem dX1_letter_35 : decode cX1_letter 35 = .ok (.iconst (-1), 1) := by decide +kernel
theorem dX1_letter_36 : decode cX1_letter 36 = .ok (.ireturn, 1) := by decide +kernel
theorem mw_X1_letter : MW yX1_letter (Cond.code yX1_letter cX1_letter 2 (Option.some Jvm.ClassFile.FieldType.int)) cX1_letter 2 (Option.some Jvm.ClassFile.FieldType.int) 1 := ⟨rfl, ⟨(lw_all_tbl q2096), rfl, (lw_all_tbl q163)⟩, rfl, ⟨by decide, by decide⟩, by decide +kernel⟩
noncomputable def c_X1_letter (l0 : Int) (l1 : Int) : Mo CH (Nat × Int) :=
  if 0 ≤ l1 then
    bnd (gf [101] 8 l0) fun v1 =>
    bnd (gf [102] 1 v1) fun v2 =>
    if v2 ≤ l1 then
      pr (0, (-1))
    else
      bnd (gf [101] 8 l0) fun v3 =>
      bnd (gf [102] 0 v3) fun v4 =>
      bnd (ald 2 v4 l1) fun v5 =>
      pr (0, v5)
  else
    bnd (thr 31) fun x => pr (1, x)
theorem sc_X1_letter (g : gC) (d : Nat) (ts : TS) (l0 : Int) (l1 : Int) (hl1 : R32 l1) : SX g yX1_letter (Cond.code yX1_letter cX1_letter 2 (Option.some Jvm.ClassFile.FieldType.int)) (Option.some Jvm.ClassFile.FieldType.int) (d + 8) [vA g l0, vI l1] (fun h => (h, ts)) (c_X1_letter l0 l1) := by
  refine SX.of (lv := [(0, vA g l0), (1, vI l1)]) (by decide) (wt_A (wt_I wt_0)) rfl (by simp only [la_A, la_I, la_J, la_0]) (fun Γ hg hnm o hX => ?_)
  subst hg
  have o : Ok Γ "LazyForge" cX1_letter 2 (Option.some Jvm.ClassFile.FieldType.int) (d + 8) := o
  unfold c_X1_letter
  refine s_iload_n o dX1_letter_0 rfl 1 rfl ?_
  refine s_if_ge (tgt := 12) o dX1_letter_1 (by decide) hl1 ?_ ?_
  · refine s_iload_n o dX1_letter_12 rfl 1 rfl ?_
    refine s_aload_n o dX1_letter_13 rfl 0 rfl ?_
    refine r_getf (vA (mg Γ)) rfl o cf_X1_out (Or.inl (lw_all_tbl q449)) dX1_letter_14 (fun v1 hv1 => ?_)
    refine r_getf vI rfl o cf_X2_size (Or.inr (Or.inl ⟨_, q227⟩)) dX1_letter_17 (fun v2 hv2 => ?_)
    refine s_icmp_ge (tgt := 35) o dX1_letter_20 (by decide) hl1 hv2 ?_ ?_
    · refine s_iconst o dX1_letter_35 ?_
      exact s_iret o rfl i_int (r32 rfl) dX1_letter_36 (fun _ hh => hh)
    · refine s_aload_n o dX1_letter_23 rfl 0 rfl ?_
      refine r_getf (vA (mg Γ)) rfl o cf_X1_out (Or.inl (lw_all_tbl q449)) dX1_letter_24 (fun v3 hv3 => ?_)
      refine r_getf (vA (mg Γ)) rfl o cf_X2_signs (Or.inr (Or.inl ⟨_, q225⟩)) dX1_letter_27 (fun v4 hv4 => ?_)
      refine s_iload_n o dX1_letter_30 rfl 1 rfl ?_
      refine r_cald o hl1 dX1_letter_31 (fun v5 hv5 => ?_)
      refine s_goto (tgt := 36) o dX1_letter_32 (by decide) ?_
      exact s_iret o rfl i_int (rC hv5) dX1_letter_36 (fun _ hh => hh)
  · exact s_throw (d := d + 0) o hX mk_31 (by decide) (lw_all_tbl q2097) at_31 (by decide +kernel) dX1_letter_4 dX1_letter_7 dX1_letter_8 dX1_letter_11 (fun _ _ hh => hh)
theorem dX1_write_0 : decode cX1_write 0 = .ok (.aload_n 0, 1) := by decide +kernel
theorem dX1_write_1 : decode cX1_write 1 = .ok (.invokevirtual 178, 3) := by decide +kernel
theorem dX1_write_4 : decode cX1_write 4 = .ok (.aload_n 0, 1) := by decide +kernel
theorem dX1_write_5 : decode cX1_write 5 = .ok (.getfield 44, 3) := by decide +kernel
theorem dX1_write_8 : decode cX1_write 8 = .ok (.aload_n 0, 1) := by decide +kernel
theorem dX1_write_9 : decode cX1_write 9 = .ok (.getfield 140, 3) := by decide +kernel
theorem dX1_write_12 : decode cX1_write 12 = .ok (.invokevirtual 184, 3) := by decide +kernel
theorem dX1_write_15 : decode cX1_write 15 = .ok (.aload_n 0, 1) := by decide +kernel
theorem dX1_write_16 : decode cX1_write 16 = .ok (.getfield 44, 3) := by decide +kernel
theorem dX1_write_19 : decode cX1_write 19 = .ok (.getfield 63, 3) := by decide +kernel
theorem dX1_write_22 : decode cX1_write 22 = .ok (.sipush 12000, 3) := by decide +kernel
theorem dX1_write_25 : decode cX1_write 25 = .ok (.if_icmp .le 5, 3) := by decide +kernel
theorem dX1_write_28 : decode cX1_write 28 = .ok (.iconst (-1), 1) := by decide +kernel
theorem dX1_write_29 : decode cX1_write 29 = .ok (.ireturn, 1) := by decide +kernel
theorem dX1_write_30 : decode cX1_write 30 = .ok (.aload_n 0, 1) := by decide +kernel
theorem dX1_write_31 : decode cX1_write 31 = .ok (.getfield 40, 3) := by decide +kernel
theorem dX1_write_34 : decode cX1_write 34 = .ok (.astore_n 1, 1) := by decide +kernel
theorem dX1_write_35 : decode cX1_write 35 = .ok (.aload_n 0, 1) := by decide +kernel
theorem dX1_write_36 : decode cX1_write 36 = .ok (.aload_n 0, 1) := by decide +kernel
theorem dX1_write_37 : decode cX1_write 37 = .ok (.getfield 44, 3) := by decide +kernel
theorem dX1_write_40 : decode cX1_write 40 = .ok (.putfield 40, 3) := by decide +kernel
theorem dX1_write_43 : decode cX1_write 43 = .ok (.aload_n 0, 1) := by decide +kernel
theorem dX1_write_44 : decode cX1_write 44 = .ok (.aload_n 1, 1) := by decide +kernel
theorem dX1_write_45 : decode cX1_write 45 = .ok (.putfield 44, 3) := by decide +kernel
theorem dX1_write_48 : decode cX1_write 48 = .ok (.aload_n 0, 1) := by decide +kernel
theorem dX1_write_49 : decode cX1_write 49 = .ok (.getfield 40, 3) := by decide +kernel
theorem dX1_write_52 : decode cX1_write 52 = .ok (.getfield 63, 3) := by decide +kernel
theorem dX1_write_55 : decode cX1_write 55 = .ok (.ireturn, 1) := by decide +kernel
theorem mw_X1_write : MW yX1_write (Cond.code yX1_write cX1_write 2 (Option.some Jvm.ClassFile.FieldType.int)) cX1_write 2 (Option.some Jvm.ClassFile.FieldType.int) 0 := ⟨rfl, ⟨(lw_all_tbl q1908), rfl, (lw_all_tbl q163)⟩, rfl, ⟨by decide, by decide⟩, by decide +kernel⟩
noncomputable def c_X1_write (l0 : Int) : Mo CH (Nat × Int) :=
  bnd (isk 101 l0) fun _ =>
  bndX (c_X1_must l0) fun _ =>
  bnd (gf [101] 9 l0) fun v2 =>
  bnd (gf [101] 4 l0) fun v3 =>
  bnd (isk 102 v2) fun _ =>
  bnd (c_X2_write v2 v3) fun _ =>
  bnd (gf [101] 9 l0) fun v4 =>
  bnd (gf [102] 1 v4) fun v5 =>
  if v5 ≤ 12000 then
    bnd (gf [101] 8 l0) fun v6 =>
    bnd (gf [101] 9 l0) fun v7 =>
    bnd (pf [101] 8 l0 v7) fun _ =>
    bnd (pf [101] 9 l0 v6) fun _ =>
    bnd (gf [101] 8 l0) fun v8 =>
    bnd (gf [102] 1 v8) fun v9 =>
    pr (0, v9)
  else
    pr (0, (-1))
theorem sc_X1_write (g : gC) (d : Nat) (ts : TS) (l0 : Int) : SX g yX1_write (Cond.code yX1_write cX1_write 2 (Option.some Jvm.ClassFile.FieldType.int)) (Option.some Jvm.ClassFile.FieldType.int) (d + 208) [vA g l0] (fun h => (h, ts)) (c_X1_write l0) := by
  refine SX.of (lv := [(0, vA g l0)]) (by decide) (wt_A wt_0) rfl (by simp only [la_A, la_I, la_J, la_0]) (fun Γ hg hnm o hX => ?_)
  subst hg
  have o : Ok Γ "LazyForge" cX1_write 2 (Option.some Jvm.ClassFile.FieldType.int) (d + 208) := o
  unfold c_X1_write
  refine s_aload_n o dX1_write_0 rfl 0 rfl ?_
  refine s_cvX (d := d + 207) (As := []) (st := []) (c := 1) o hX (sc_X1_must (mg Γ) (d + 199) ts l0) mw_X1_must rfl (lw_all_tbl q1909) rfl (lw_all_tbl qs47) (lw_all_tbl q1911) wt_0 rfl dX1_write_1 rfl (rs := fun _ => []) (fun _ => rfl) (fun _ _ hh => hh) (fun _ _ => ?_)
  refine s_aload_n o dX1_write_4 rfl 0 rfl ?_
  refine r_getf (vA (mg Γ)) rfl o cf_X1_draft (Or.inl (lw_all_tbl q450)) dX1_write_5 (fun v2 hv2 => ?_)
  refine s_aload_n o dX1_write_8 rfl 0 rfl ?_
  refine r_getf (vA (mg Γ)) rfl o cf_X1_program (Or.inl (lw_all_tbl q444)) dX1_write_9 (fun v3 hv3 => ?_)
  refine s_cvC (d := d + 207) (As := [vA (mg Γ) v3]) (st := []) (c := 2) o (sc_X2_write (mg Γ) d ts v2 v3) mw_X2_write rfl (Or.inl (lw_all_tbl q1928)) rfl (lw_all_tbl q1930) (lw_all_tbl q1929) wt_0 rfl dX1_write_12 rfl (rs := fun _ => []) (fun _ => rfl) (fun _ _ => ?_)
  refine s_aload_n o dX1_write_15 rfl 0 rfl ?_
  refine r_getf (vA (mg Γ)) rfl o cf_X1_draft (Or.inl (lw_all_tbl q450)) dX1_write_16 (fun v4 hv4 => ?_)
  refine r_getf vI rfl o cf_X2_size (Or.inr (Or.inl ⟨_, q227⟩)) dX1_write_19 (fun v5 hv5 => ?_)
  refine s_sipush o dX1_write_22 rfl ?_
  refine s_icmp_le (tgt := 30) o dX1_write_25 (by decide) hv5 (r32 rfl) ?_ ?_
  · refine s_aload_n o dX1_write_30 rfl 0 rfl ?_
    refine r_getf (vA (mg Γ)) rfl o cf_X1_out (Or.inl (lw_all_tbl q449)) dX1_write_31 (fun v6 hv6 => ?_)
    refine r_astore_n o dX1_write_34 rfl rfl ⟨(Nat.ne_of_beq_eq_false rfl), (fun _ => (vA_cat (mg Γ) l0)), trivial⟩ ?_
    refine s_aload_n o dX1_write_35 rfl 1 rfl ?_
    refine s_aload_n o dX1_write_36 rfl 1 rfl ?_
    refine r_getf (vA (mg Γ)) rfl o cf_X1_draft (Or.inl (lw_all_tbl q450)) dX1_write_37 (fun v7 hv7 => ?_)
    refine r_putf (vA (mg Γ)) rfl o cf_X1_out (Or.inl (lw_all_tbl q449)) dX1_write_40 (Or.inl rfl) trivial (ty_object _) ?_
    refine s_aload_n o dX1_write_43 rfl 1 rfl ?_
    refine s_aload_n o dX1_write_44 rfl 0 rfl ?_
    refine r_putf (vA (mg Γ)) rfl o cf_X1_draft (Or.inl (lw_all_tbl q450)) dX1_write_45 (Or.inl rfl) trivial (ty_object _) ?_
    refine s_aload_n o dX1_write_48 rfl 1 rfl ?_
    refine r_getf (vA (mg Γ)) rfl o cf_X1_out (Or.inl (lw_all_tbl q449)) dX1_write_49 (fun v8 hv8 => ?_)
    refine r_getf vI rfl o cf_X2_size (Or.inr (Or.inl ⟨_, q227⟩)) dX1_write_52 (fun v9 hv9 => ?_)
    exact s_iret o rfl i_int hv9 dX1_write_55 (fun _ hh => hh)
  · refine s_iconst o dX1_write_28 ?_
    exact s_iret o rfl i_int (r32 rfl) dX1_write_29 (fun _ hh => hh)
theorem dX1_fault_0 : decode cX1_fault 0 = .ok (.iload_n 1, 1) := by decide +kernel
theorem dX1_fault_1 : decode cX1_fault 1 = .ok (.ifCond .eq 16, 3) := by decide +kernel
theorem dX1_fault_4 : decode cX1_fault 4 = .ok (.iload_n 1, 1) := by decide +kernel
theorem dX1_fault_5 : decode cX1_fault 5 = .ok (.iconst 1, 1) := by decide +kernel
theorem dX1_fault_6 : decode cX1_fault 6 = .ok (.if_icmp .eq 11, 3) := by decide +kernel
theorem dX1_fault_9 : decode cX1_fault 9 = .ok (.new 54, 3) := by decide +kernel
theorem dX1_fault_12 : decode cX1_fault 12 = .ok (.dup, 1) := by decide +kernel
theorem dX1_fault_13 : decode cX1_fault 13 = .ok (.invokespecial 56, 3) := by decide +kernel
theorem dX1_fault_16 : decode cX1_fault 16 = .ok (.athrow, 1) := by decide +kernel
theorem dX1_fault_17 : decode cX1_fault 17 = .ok (.iload_n 1, 1) := by decide +kernel
theorem dX1_fault_18 : decode cX1_fault 18 = .ok (.ifCond .ne 10, 3) := by decide +kernel
theorem dX1_fault_21 : decode cX1_fault 21 = .ok (.aload_n 0, 1) := by decide +kernel
theorem dX1_fault_22 : decode cX1_fault 22 = .ok (.getfield 154, 3) := by decide +kernel
theorem dX1_fault_25 : decode cX1_fault 25 = .ok (.goto 7, 3) := by decide +kernel
theorem dX1_fault_28 : decode cX1_fault 28 = .ok (.aload_n 0, 1) := by decide +kernel
theorem dX1_fault_29 : decode cX1_fault 29 = .ok (.getfield 33, 3) := by decide +kernel
theorem dX1_fault_32 : decode cX1_fault 32 = .ok (.ireturn, 1) := by decide +kernel
theorem mw_X1_fault : MW yX1_fault (Cond.code yX1_fault cX1_fault 2 (Option.some Jvm.ClassFile.FieldType.int)) cX1_fault 2 (Option.some Jvm.ClassFile.FieldType.int) 1 := ⟨rfl, ⟨(lw_all_tbl q1900), rfl, (lw_all_tbl q163)⟩, rfl, ⟨by decide, by decide⟩, by decide +kernel⟩
noncomputable def c_X1_fault_17  (l0 : Int) (l1 : Int) : Mo CH (Nat × Int) :=
  if ¬ l1 = 0 then
    bnd (gf [101] 3 l0) fun v1 =>
    pr (0, v1)
  else
    bnd (gf [101] 2 l0) fun v2 =>
    pr (0, v2)
theorem sc_X1_fault_17 {Γ : Gm} {ts : TS} {d : Nat} (hX : Xt Γ []) (o : Ok Γ "LazyForge" cX1_fault 2 (Option.some Jvm.ClassFile.FieldType.int) (d + 8))   (l0 : Int) (l1 : Int) (hl1 : R32 l1) : Sx Γ (fun h => (h, ts)) (fun (a : Nat × Int) s => mt Γ = (a.1, a.2, ((s, ts) : Wd))) 17 [(0, vA (mg Γ) l0), (1, vI l1)] [] (c_X1_fault_17 l0 l1) := by
  unfold c_X1_fault_17
  refine s_iload_n o dX1_fault_17 rfl 1 rfl ?_
  refine s_if_ne (tgt := 28) o dX1_fault_18 (by decide) hl1 ?_ ?_
  · refine s_aload_n o dX1_fault_28 rfl 0 rfl ?_
    refine r_getf vI rfl o cf_X1_faultPlace (Or.inl (lw_all_tbl q443)) dX1_fault_29 (fun v1 hv1 => ?_)
    exact s_iret o rfl i_int hv1 dX1_fault_32 (fun _ hh => hh)
  · refine s_aload_n o dX1_fault_21 rfl 0 rfl ?_
    refine r_getf vI rfl o cf_X1_faultKind (Or.inl (lw_all_tbl q442)) dX1_fault_22 (fun v2 hv2 => ?_)
    refine s_goto (tgt := 32) o dX1_fault_25 (by decide) ?_
    exact s_iret o rfl i_int hv2 dX1_fault_32 (fun _ hh => hh)
noncomputable def c_X1_fault (l0 : Int) (l1 : Int) : Mo CH (Nat × Int) :=
  if l1 = 0 then
    c_X1_fault_17 l0 l1
  else
    if l1 = 1 then
      c_X1_fault_17 l0 l1
    else
      bnd (thr 28) fun x => pr (1, x)
theorem sc_X1_fault (g : gC) (d : Nat) (ts : TS) (l0 : Int) (l1 : Int) (hl1 : R32 l1) : SX g yX1_fault (Cond.code yX1_fault cX1_fault 2 (Option.some Jvm.ClassFile.FieldType.int)) (Option.some Jvm.ClassFile.FieldType.int) (d + 8) [vA g l0, vI l1] (fun h => (h, ts)) (c_X1_fault l0 l1) := by
  refine SX.of (lv := [(0, vA g l0), (1, vI l1)]) (by decide) (wt_A (wt_I wt_0)) rfl (by simp only [la_A, la_I, la_J, la_0]) (fun Γ hg hnm o hX => ?_)
  subst hg
  have o : Ok Γ "LazyForge" cX1_fault 2 (Option.some Jvm.ClassFile.FieldType.int) (d + 8) := o
  unfold c_X1_fault
  refine s_iload_n o dX1_fault_0 rfl 1 rfl ?_
  refine s_if_eq (tgt := 17) o dX1_fault_1 (by decide) hl1 ?_ ?_
  · exact sc_X1_fault_17 hX o l0 l1 hl1
  · refine s_iload_n o dX1_fault_4 rfl 1 rfl ?_
    refine s_iconst o dX1_fault_5 ?_
    refine s_icmp_eq (tgt := 17) o dX1_fault_6 (by decide) hl1 (r32 rfl) ?_ ?_
    · exact sc_X1_fault_17 hX o l0 l1 hl1
    · exact s_throw (d := d + 0) o hX mk_28 (by decide) (lw_all_tbl q491) at_28 (by decide +kernel) dX1_fault_9 dX1_fault_12 dX1_fault_13 dX1_fault_16 (fun _ _ hh => hh)
theorem dX1_program_0 : decode cX1_program 0 = .ok (.aload_n 0, 1) := by decide +kernel
theorem dX1_program_1 : decode cX1_program 1 = .ok (.getfield 132, 3) := by decide +kernel
theorem dX1_program_4 : decode cX1_program 4 = .ok (.sipush 20000, 3) := by decide +kernel
theorem dX1_program_7 : decode cX1_program 7 = .ok (.if_icmp .lt 11, 3) := by decide +kernel
theorem dX1_program_10 : decode cX1_program 10 = .ok (.new 60, 3) := by decide +kernel
theorem dX1_program_13 : decode cX1_program 13 = .ok (.dup, 1) := by decide +kernel
theorem dX1_program_14 : decode cX1_program 14 = .ok (.invokespecial 62, 3) := by decide +kernel
theorem dX1_program_17 : decode cX1_program 17 = .ok (.athrow, 1) := by decide +kernel
theorem dX1_program_18 : decode cX1_program 18 = .ok (.new 135, 3) := by decide +kernel
theorem dX1_program_21 : decode cX1_program 21 = .ok (.dup, 1) := by decide +kernel
theorem dX1_program_22 : decode cX1_program 22 = .ok (.aload_n 0, 1) := by decide +kernel
theorem dX1_program_23 : decode cX1_program 23 = .ok (.aload_n 0, 1) := by decide +kernel
theorem dX1_program_24 : decode cX1_program 24 = .ok (.getfield 29, 3) := by decide +kernel
theorem dX1_program_27 : decode cX1_program 27 = .ok (.aload_n 0, 1) := by decide +kernel
theorem dX1_program_28 : decode cX1_program 28 = .ok (.getfield 57, 3) := by decide +kernel
theorem dX1_program_31 : decode cX1_program 31 = .ok (.invokespecial 137, 3) := by decide +kernel
theorem dX1_program_34 : decode cX1_program 34 = .ok (.astore_n 1, 1) := by decide +kernel
theorem dX1_program_35 : decode cX1_program 35 = .ok (.aload_n 0, 1) := by decide +kernel
theorem dX1_program_36 : decode cX1_program 36 = .ok (.iconst 0, 1) := by decide +kernel
theorem dX1_program_37 : decode cX1_program 37 = .ok (.putfield 57, 3) := by decide +kernel
theorem dX1_program_40 : decode cX1_program 40 = .ok (.aload_n 0, 1) := by decide +kernel
theorem dX1_program_41 : decode cX1_program 41 = .ok (.aconst_null, 1) := by decide +kernel
theorem dX1_program_42 : decode cX1_program 42 = .ok (.putfield 140, 3) := by decide +kernel
theorem dX1_program_45 : decode cX1_program 45 = .ok (.aload_n 0, 1) := by decide +kernel
theorem dX1_program_46 : decode cX1_program 46 = .ok (.getfield 50, 3) := by decide +kernel
theorem dX1_program_49 : decode cX1_program 49 = .ok (.invokevirtual 144, 3) := by decide +kernel
theorem dX1_program_52 : decode cX1_program 52 = .ok (.aload_n 1, 1) := by decide +kernel
theorem dX1_program_53 : decode cX1_program 53 = .ok (.invokevirtual 147, 3) := by decide +kernel
theorem dX1_program_56 : decode cX1_program 56 = .ok (.istore_n 2, 1) := by decide +kernel
theorem dX1_program_57 : decode cX1_program 57 = .ok (.aload_n 0, 1) := by decide +kernel
theorem dX1_program_58 : decode cX1_program 58 = .ok (.aload_n 1, 1) := by decide +kernel
theorem dX1_program_59 : decode cX1_program 59 = .ok (.getfield 151, 3) := by decide +kernel
theorem dX1_program_62 : decode cX1_program 62 = .ok (.putfield 154, 3) := by decide +kernel
theorem dX1_program_65 : decode cX1_program 65 = .ok (.aload_n 0, 1) := by decide +kernel
theorem dX1_program_66 : decode cX1_program 66 = .ok (.aload_n 1, 1) := by decide +kernel
theorem dX1_program_67 : decode cX1_program 67 = .ok (.getfield 157, 3) := by decide +kernel
theorem dX1_program_70 : decode cX1_program 70 = .ok (.putfield 33, 3) := by decide +kernel
theorem dX1_program_73 : decode cX1_program 73 = .ok (.iload_n 2, 1) := by decide +kernel
theorem dX1_program_74 : decode cX1_program 74 = .ok (.ifCond .ne 5, 3) := by decide +kernel
theorem dX1_program_77 : decode cX1_program 77 = .ok (.iconst (-1), 1) := by decide +kernel
theorem dX1_program_78 : decode cX1_program 78 = .ok (.ireturn, 1) := by decide +kernel
theorem dX1_program_79 : decode cX1_program 79 = .ok (.new 158, 3) := by decide +kernel
theorem dX1_program_82 : decode cX1_program 82 = .ok (.dup, 1) := by decide +kernel
theorem dX1_program_83 : decode cX1_program 83 = .ok (.aload_n 1, 1) := by decide +kernel
theorem dX1_program_84 : decode cX1_program 84 = .ok (.invokespecial 160, 3) := by decide +kernel
theorem dX1_program_87 : decode cX1_program 87 = .ok (.astore_n 3, 1) := by decide +kernel
theorem dX1_program_88 : decode cX1_program 88 = .ok (.aload_n 0, 1) := by decide +kernel
theorem dX1_program_89 : decode cX1_program 89 = .ok (.aload_n 3, 1) := by decide +kernel
theorem dX1_program_90 : decode cX1_program 90 = .ok (.invokevirtual 163, 3) := by decide +kernel
theorem dX1_program_93 : decode cX1_program 93 = .ok (.putfield 140, 3) := by decide +kernel
theorem dX1_program_96 : decode cX1_program 96 = .ok (.aload_n 0, 1) := by decide +kernel
theorem dX1_program_97 : decode cX1_program 97 = .ok (.aload_n 3, 1) := by decide +kernel
theorem dX1_program_98 : decode cX1_program 98 = .ok (.getfield 167, 3) := by decide +kernel
theorem dX1_program_101 : decode cX1_program 101 = .ok (.putfield 154, 3) := by decide +kernel
theorem dX1_program_104 : decode cX1_program 104 = .ok (.aload_n 0, 1) := by decide +kernel
theorem dX1_program_105 : decode cX1_program 105 = .ok (.aload_n 3, 1) := by decide +kernel
theorem dX1_program_106 : decode cX1_program 106 = .ok (.getfield 168, 3) := by decide +kernel
theorem dX1_program_109 : decode cX1_program 109 = .ok (.putfield 33, 3) := by decide +kernel
theorem dX1_program_112 : decode cX1_program 112 = .ok (.aload_n 0, 1) := by decide +kernel
theorem dX1_program_113 : decode cX1_program 113 = .ok (.getfield 140, 3) := by decide +kernel
theorem dX1_program_116 : decode cX1_program 116 = .ok (.ifnonnull 5, 3) := by decide +kernel
theorem dX1_program_119 : decode cX1_program 119 = .ok (.iconst (-1), 1) := by decide +kernel
theorem dX1_program_120 : decode cX1_program 120 = .ok (.ireturn, 1) := by decide +kernel
theorem dX1_program_121 : decode cX1_program 121 = .ok (.aload_n 0, 1) := by decide +kernel
theorem dX1_program_122 : decode cX1_program 122 = .ok (.getfield 140, 3) := by decide +kernel
theorem dX1_program_125 : decode cX1_program 125 = .ok (.invokestatic 171, 3) := by decide +kernel
theorem dX1_program_128 : decode cX1_program 128 = .ok (.aload_n 0, 1) := by decide +kernel
theorem dX1_program_129 : decode cX1_program 129 = .ok (.getfield 140, 3) := by decide +kernel
theorem dX1_program_132 : decode cX1_program 132 = .ok (.getfield 73, 3) := by decide +kernel
theorem dX1_program_135 : decode cX1_program 135 = .ok (.invokevirtual 79, 3) := by decide +kernel
theorem dX1_program_138 : decode cX1_program 138 = .ok (.ireturn, 1) := by decide +kernel
theorem mw_X1_program : MW yX1_program (Cond.code yX1_program cX1_program 4 (Option.some Jvm.ClassFile.FieldType.int)) cX1_program 4 (Option.some Jvm.ClassFile.FieldType.int) 0 := ⟨rfl, ⟨(lw_all_tbl q585), rfl, (lw_all_tbl q163)⟩, rfl, ⟨by decide, by decide⟩, by decide +kernel⟩
noncomputable def c_X1_program (l0 : Int) : Mo CH (Nat × Int) :=
  bnd (gf [101] 5 l0) fun v1 =>
  if v1 < 20000 then
    bnd (newo 12) fun v2 =>
    bnd (gf [101] 0 l0) fun v3 =>
    bnd (gf [101] 1 l0) fun v4 =>
    bnd (c_X12_init v2 l0 v3 v4) fun _ =>
    bnd (pf [101] 1 l0 0) fun _ =>
    bnd (pf [101] 4 l0 0) fun _ =>
    bnd (gf [101] 10 l0) fun v5 =>
    bnd (isk 103 v5) fun _ =>
    bnd (c_X3_clear v5) fun _ =>
    bnd (isk 112 v2) fun _ =>
    bnd (c_X12_read v2) fun v6 =>
    bnd (gf [112] 9 v2) fun v7 =>
    bnd (pf [101] 2 l0 v7) fun _ =>
    bnd (gf [112] 10 v2) fun v8 =>
    bnd (pf [101] 3 l0 v8) fun _ =>
    if ¬ v6 = 0 then
      bnd (newo 14) fun v9 =>
      bnd (c_X14_init v9 v2) fun _ =>
      bnd (isk 114 v9) fun _ =>
      bnd (c_X14_resolve v9) fun v10 =>
      bnd (pf [101] 4 l0 v10) fun _ =>
      bnd (gf [114] 6 v9) fun v11 =>
      bnd (pf [101] 2 l0 v11) fun _ =>
      bnd (gf [114] 7 v9) fun v12 =>
      bnd (pf [101] 3 l0 v12) fun _ =>
      bnd (gf [101] 4 l0) fun v13 =>
      if ¬ v13 = 0 then
        bnd (gf [101] 4 l0) fun v14 =>
        bnd (c_X1_judge v14) fun _ =>
        bnd (gf [101] 4 l0) fun v15 =>
        bnd (gf [115] 0 v15) fun v16 =>
        bnd (isk 127 v16) fun _ =>
        bnd (c_J13_size v16) fun v17 =>
        pr (0, v17)
      else
        pr (0, (-1))
    else
      pr (0, (-1))
  else
    bnd (thr 29) fun x => pr (1, x)
theorem sc_X1_program (g : gC) (d : Nat) (ts : TS) (l0 : Int) : SX g yX1_program (Cond.code yX1_program cX1_program 4 (Option.some Jvm.ClassFile.FieldType.int)) (Option.some Jvm.ClassFile.FieldType.int) (d + 611) [vA g l0] (fun h => (h, ts)) (c_X1_program l0) := by
  refine SX.of (lv := [(0, vA g l0)]) (by decide) (wt_A wt_0) rfl (by simp only [la_A, la_I, la_J, la_0]) (fun Γ hg hnm o hX => ?_)
  subst hg
  have o : Ok Γ "LazyForge" cX1_program 4 (Option.some Jvm.ClassFile.FieldType.int) (d + 611) := o
  unfold c_X1_program
  refine s_aload_n o dX1_program_0 rfl 0 rfl ?_
  refine r_getf vI rfl o cf_X1_allParts (Or.inl (lw_all_tbl q445)) dX1_program_1 (fun v1 hv1 => ?_)
  refine s_sipush o dX1_program_4 rfl ?_
  refine s_icmp_lt (tgt := 18) o dX1_program_7 (by decide) hv1 (r32 rfl) ?_ ?_
  · refine s_new o mk_12 (lw_all_tbl q586) dX1_program_18 (fun v2 hv2 => ?_)
    refine s_dup o dX1_program_21 (vA_cat (mg Γ) v2) ?_
    refine s_aload_n o dX1_program_22 rfl 0 rfl ?_
    refine s_aload_n o dX1_program_23 rfl 0 rfl ?_
    refine r_getf (vA (mg Γ)) rfl o cf_X1_text (Or.inl (lw_all_tbl q440)) dX1_program_24 (fun v3 hv3 => ?_)
    refine s_aload_n o dX1_program_27 rfl 0 rfl ?_
    refine r_getf vI rfl o cf_X1_size (Or.inl (lw_all_tbl q441)) dX1_program_28 (fun v4 hv4 => ?_)
    refine s_ci (d := d + 610) (As := [vA (mg Γ) l0, vA (mg Γ) v3, vI v4]) (st := [vA (mg Γ) v2]) o (sc_X12_init (mg Γ) (d + 605) ts v2 l0 v3 v4 hv2 hv4) mw_X12_init rfl (Or.inl (lw_all_tbl q588)) (lw_all_tbl q589) rfl hv2 (wt_A wt_0) rfl dX1_program_31 rfl (fun _ => ?_)
    refine r_astore_n o dX1_program_34 rfl rfl ⟨(Nat.ne_of_beq_eq_false rfl), (fun _ => (vA_cat (mg Γ) l0)), trivial⟩ ?_
    refine s_aload_n o dX1_program_35 rfl 1 rfl ?_
    refine s_iconst o dX1_program_36 ?_
    refine r_putf vI rfl o cf_X1_size (Or.inl (lw_all_tbl q441)) dX1_program_37 (Or.inl rfl) (r32 rfl) ty_int ?_
    refine s_aload_n o dX1_program_40 rfl 1 rfl ?_
    refine s_null o dX1_program_41 ?_
    refine r_putf (vA (mg Γ)) rfl o cf_X1_program (Or.inl (lw_all_tbl q444)) dX1_program_42 (Or.inl rfl) trivial (ty_object _) ?_
    refine s_aload_n o dX1_program_45 rfl 1 rfl ?_
    refine r_getf (vA (mg Γ)) rfl o cf_X1_machine (Or.inl (lw_all_tbl q451)) dX1_program_46 (fun v5 hv5 => ?_)
    refine s_cvC (d := d + 610) (As := []) (st := []) (c := 3) o (sc_X3_clear (mg Γ) (d + 610) ts v5) mw_X3_clear rfl (Or.inl (lw_all_tbl q735)) rfl (lw_all_tbl q737) (lw_all_tbl q736) wt_0 rfl dX1_program_49 rfl (rs := fun _ => []) (fun _ => rfl) (fun _ _ => ?_)
    refine s_aload_n o dX1_program_52 rfl 0 rfl ?_
    refine s_cvC (d := d + 610) (As := []) (st := []) (c := 12) o (sc_X12_read (mg Γ) d ts v2) mw_X12_read rfl (Or.inl (lw_all_tbl q739)) rfl (lw_all_tbl q741) (lw_all_tbl q740) wt_0 rfl dX1_program_53 rfl (rs := fun r => [vI r]) (fun _ => rfl) (fun v6 hv6 => ?_)
    refine r_istore_n o dX1_program_56 rfl rfl ⟨(Nat.ne_of_beq_eq_false rfl), (fun _ => (vA_cat (mg Γ) v2)), ⟨(Nat.ne_of_beq_eq_false rfl), (fun _ => (vA_cat (mg Γ) l0)), trivial⟩⟩ ?_
    refine s_aload_n o dX1_program_57 rfl 2 rfl ?_
    refine s_aload_n o dX1_program_58 rfl 1 rfl ?_
    refine r_getf vI rfl o cf_X12_kind (Or.inr (Or.inl ⟨_, q663⟩)) dX1_program_59 (fun v7 hv7 => ?_)
    refine r_putf vI rfl o cf_X1_faultKind (Or.inl (lw_all_tbl q442)) dX1_program_62 (Or.inl rfl) hv7 ty_int ?_
    refine s_aload_n o dX1_program_65 rfl 2 rfl ?_
    refine s_aload_n o dX1_program_66 rfl 1 rfl ?_
    refine r_getf vI rfl o cf_X12_faultPlace (Or.inr (Or.inl ⟨_, q665⟩)) dX1_program_67 (fun v8 hv8 => ?_)
    refine r_putf vI rfl o cf_X1_faultPlace (Or.inl (lw_all_tbl q443)) dX1_program_70 (Or.inl rfl) hv8 ty_int ?_
    refine s_iload_n o dX1_program_73 rfl 0 rfl ?_
    refine s_if_ne (tgt := 79) o dX1_program_74 (by decide) (rZ (hv6 _ rfl)) ?_ ?_
    · refine s_new o mk_14 (lw_all_tbl q1018) dX1_program_79 (fun v9 hv9 => ?_)
      refine s_dup o dX1_program_82 (vA_cat (mg Γ) v9) ?_
      refine s_aload_n o dX1_program_83 rfl 1 rfl ?_
      refine s_ci (d := d + 610) (As := [vA (mg Γ) v2]) (st := [vA (mg Γ) v9]) o (sc_X14_init (mg Γ) (d + 605) ts v9 v2 hv9) mw_X14_init rfl (Or.inl (lw_all_tbl q1020)) (lw_all_tbl q1021) rfl hv9 (wt_A wt_0) rfl dX1_program_84 rfl (fun _ => ?_)
      refine r_astore_n o dX1_program_87 rfl rfl ⟨(Nat.ne_of_beq_eq_false rfl), (fun _ => rfl), ⟨(Nat.ne_of_beq_eq_false rfl), (fun _ => (vA_cat (mg Γ) v2)), ⟨(Nat.ne_of_beq_eq_false rfl), (fun _ => (vA_cat (mg Γ) l0)), trivial⟩⟩⟩ ?_
      refine s_aload_n o dX1_program_88 rfl 3 rfl ?_
      refine s_aload_n o dX1_program_89 rfl 0 rfl ?_
      refine s_cvC (d := d + 610) (As := []) (st := [vA (mg Γ) l0]) (c := 14) o (sc_X14_resolve (mg Γ) d ts v9) mw_X14_resolve rfl (Or.inl (lw_all_tbl q1131)) rfl (lw_all_tbl q1133) (lw_all_tbl q1132) (wt_A wt_0) rfl dX1_program_90 rfl (rs := fun r => [vA (mg Γ) r, vA (mg Γ) l0]) (fun _ => rfl) (fun v10 hv10 => ?_)
      refine r_putf (vA (mg Γ)) rfl o cf_X1_program (Or.inl (lw_all_tbl q444)) dX1_program_93 (Or.inl rfl) trivial (ty_object _) ?_
      refine s_aload_n o dX1_program_96 rfl 3 rfl ?_
      refine s_aload_n o dX1_program_97 rfl 0 rfl ?_
      refine r_getf vI rfl o cf_X14_kind (Or.inr (Or.inl ⟨_, q1111⟩)) dX1_program_98 (fun v11 hv11 => ?_)
      refine r_putf vI rfl o cf_X1_faultKind (Or.inl (lw_all_tbl q442)) dX1_program_101 (Or.inl rfl) hv11 ty_int ?_
      refine s_aload_n o dX1_program_104 rfl 3 rfl ?_
      refine s_aload_n o dX1_program_105 rfl 0 rfl ?_
      refine r_getf vI rfl o cf_X14_place (Or.inr (Or.inl ⟨_, q1113⟩)) dX1_program_106 (fun v12 hv12 => ?_)
      refine r_putf vI rfl o cf_X1_faultPlace (Or.inl (lw_all_tbl q443)) dX1_program_109 (Or.inl rfl) hv12 ty_int ?_
      refine s_aload_n o dX1_program_112 rfl 3 rfl ?_
      refine r_getf (vA (mg Γ)) rfl o cf_X1_program (Or.inl (lw_all_tbl q444)) dX1_program_113 (fun v13 hv13 => ?_)
      refine s_ifnonnull (tgt := 121) o dX1_program_116 (by decide) ?_ ?_
      · refine s_aload_n o dX1_program_121 rfl 3 rfl ?_
        refine r_getf (vA (mg Γ)) rfl o cf_X1_program (Or.inl (lw_all_tbl q444)) dX1_program_122 (fun v14 hv14 => ?_)
        refine s_cs (d := d + 610) (As := [vA (mg Γ) v14]) (st := []) o (sc_X1_judge (mg Γ) (d + 204) ts v14) mw_X1_judge rfl (Or.inl (lw_all_tbl q1628)) (lw_all_tbl q1629) wt_0 rfl dX1_program_125 rfl (rs := fun _ => []) (fun _ => rfl) (fun _ _ => ?_)
        refine s_aload_n o dX1_program_128 rfl 3 rfl ?_
        refine r_getf (vA (mg Γ)) rfl o cf_X1_program (Or.inl (lw_all_tbl q444)) dX1_program_129 (fun v15 hv15 => ?_)
        refine r_getf (vA (mg Γ)) rfl o cf_X15_functions (Or.inr (Or.inl ⟨_, q1058⟩)) dX1_program_132 (fun v16 hv16 => ?_)
        refine s_cvC (d := d + 610) (As := []) (st := []) (c := 27) o (sc_J13_size (mg Γ) (d + 610) ts v16) mw_J13_size rfl (Or.inl (lw_all_tbl q1631)) rfl (lw_all_tbl q1359) (lw_all_tbl q1358) wt_0 rfl dX1_program_135 rfl (rs := fun r => [vI r]) (fun _ => rfl) (fun v17 hv17 => ?_)
        exact s_iret o rfl i_int (hv17 _ rfl) dX1_program_138 (fun _ hh => hh)
      · refine s_iconst o dX1_program_119 ?_
        exact s_iret o rfl i_int (r32 rfl) dX1_program_120 (fun _ hh => hh)
    · refine s_iconst o dX1_program_77 ?_
      exact s_iret o rfl i_int (r32 rfl) dX1_program_78 (fun _ hh => hh)
  · exact s_throw (d := d + 603) o hX mk_29 (by decide) (lw_all_tbl q557) at_29 (by decide +kernel) dX1_program_10 dX1_program_13 dX1_program_14 dX1_program_17 (fun _ _ hh => hh)
theorem dX1_end_0 : decode cX1_end 0 = .ok (.iload_n 1, 1) := by decide +kernel
theorem dX1_end_1 : decode cX1_end 1 = .ok (.ifCond .lt 11, 3) := by decide +kernel
theorem dX1_end_4 : decode cX1_end 4 = .ok (.iload_n 1, 1) := by decide +kernel
theorem dX1_end_5 : decode cX1_end 5 = .ok (.aload_n 0, 1) := by decide +kernel
theorem dX1_end_6 : decode cX1_end 6 = .ok (.getfield 57, 3) := by decide +kernel
theorem dX1_end_9 : decode cX1_end 9 = .ok (.if_icmp .le 11, 3) := by decide +kernel
theorem dX1_end_12 : decode cX1_end 12 = .ok (.new 54, 3) := by decide +kernel
theorem dX1_end_15 : decode cX1_end 15 = .ok (.dup, 1) := by decide +kernel
theorem dX1_end_16 : decode cX1_end 16 = .ok (.invokespecial 56, 3) := by decide +kernel
theorem dX1_end_19 : decode cX1_end 19 = .ok (.athrow, 1) := by decide +kernel
theorem dX1_end_20 : decode cX1_end 20 = .ok (.aload_n 0, 1) := by decide +kernel
theorem dX1_end_21 : decode cX1_end 21 = .ok (.iload_n 1, 1) := by decide +kernel
theorem dX1_end_22 : decode cX1_end 22 = .ok (.putfield 57, 3) := by decide +kernel
theorem dX1_end_25 : decode cX1_end 25 = .ok (.return_, 1) := by decide +kernel
theorem mw_X1_end : MW yX1_end (Cond.code yX1_end cX1_end 2 (Option.none : Option Jvm.ClassFile.FieldType)) cX1_end 2 (Option.none : Option Jvm.ClassFile.FieldType) 1 := ⟨rfl, ⟨(lw_all_tbl q578), rfl, (lw_all_tbl q163)⟩, rfl, ⟨by decide, by decide⟩, by decide +kernel⟩
noncomputable def c_X1_end_12  : Mo CH (Nat × Int) :=
  bnd (thr 28) fun x => pr (1, x)
theorem sc_X1_end_12 {Γ : Gm} {ts : TS} {d : Nat} (hX : Xt Γ []) (o : Ok Γ "LazyForge" cX1_end 2 (Option.none : Option Jvm.ClassFile.FieldType) (d + 8))   : Sx Γ (fun h => (h, ts)) (fun (a : Nat × Int) s => mt Γ = (a.1, a.2, ((s, ts) : Wd))) 12 [] [] (c_X1_end_12) := by
  unfold c_X1_end_12
  exact s_throw (d := d + 0) o hX mk_28 (by decide) (lw_all_tbl q491) at_28 (by decide +kernel) dX1_end_12 dX1_end_15 dX1_end_16 dX1_end_19 (fun _ _ hh => hh)
noncomputable def c_X1_end (l0 : Int) (l1 : Int) : Mo CH (Nat × Int) :=
  if l1 < 0 then
    c_X1_end_12
  else
    bnd (gf [101] 1 l0) fun v1 =>
    if l1 ≤ v1 then
      bnd (pf [101] 1 l0 l1) fun _ =>
      pr (0, 0)
    else
      c_X1_end_12
theorem sc_X1_end (g : gC) (d : Nat) (ts : TS) (l0 : Int) (l1 : Int) (hl1 : R32 l1) : SX g yX1_end (Cond.code yX1_end cX1_end 2 (Option.none : Option Jvm.ClassFile.FieldType)) (Option.none : Option Jvm.ClassFile.FieldType) (d + 8) [vA g l0, vI l1] (fun h => (h, ts)) (c_X1_end l0 l1) := by
  refine SX.of (lv := [(0, vA g l0), (1, vI l1)]) (by decide) (wt_A (wt_I wt_0)) rfl (by simp only [la_A, la_I, la_J, la_0]) (fun Γ hg hnm o hX => ?_)
  subst hg
  have o : Ok Γ "LazyForge" cX1_end 2 (Option.none : Option Jvm.ClassFile.FieldType) (d + 8) := o
  unfold c_X1_end
  refine s_iload_n o dX1_end_0 rfl 1 rfl ?_
  refine s_if_lt (tgt := 12) o dX1_end_1 (by decide) hl1 ?_ ?_
  · refine r_to [] [] rfl ?_
    exact sc_X1_end_12 hX o
  · refine s_iload_n o dX1_end_4 rfl 1 rfl ?_
    refine s_aload_n o dX1_end_5 rfl 0 rfl ?_
    refine r_getf vI rfl o cf_X1_size (Or.inl (lw_all_tbl q441)) dX1_end_6 (fun v1 hv1 => ?_)
    refine s_icmp_le (tgt := 20) o dX1_end_9 (by decide) hl1 hv1 ?_ ?_
    · refine s_aload_n o dX1_end_20 rfl 0 rfl ?_
      refine s_iload_n o dX1_end_21 rfl 1 rfl ?_
      refine r_putf vI rfl o cf_X1_size (Or.inl (lw_all_tbl q441)) dX1_end_22 (Or.inl rfl) hl1 ty_int ?_
      exact s_vret o rfl dX1_end_25 (fun _ hh => hh)
    · refine r_to [] [] rfl ?_
      exact sc_X1_end_12 hX o
theorem dX1_put_0 : decode cX1_put 0 = .ok (.iconst 0, 1) := by decide +kernel
theorem dX1_put_1 : decode cX1_put 1 = .ok (.istore_n 2, 1) := by decide +kernel
theorem dX1_put_2 : decode cX1_put 2 = .ok (.iconst 0, 1) := by decide +kernel
theorem dX1_put_3 : decode cX1_put 3 = .ok (.istore_n 3, 1) := by decide +kernel
theorem dX1_put_4 : decode cX1_put 4 = .ok (.iload_n 3, 1) := by decide +kernel
theorem dX1_put_5 : decode cX1_put 5 = .ok (.bipush 32, 2) := by decide +kernel
theorem dX1_put_7 : decode cX1_put 7 = .ok (.if_icmp .ge 65, 3) := by decide +kernel
theorem dX1_put_10 : decode cX1_put 10 = .ok (.iload_n 1, 1) := by decide +kernel
theorem dX1_put_11 : decode cX1_put 11 = .ok (.iload_n 3, 1) := by decide +kernel
theorem dX1_put_12 : decode cX1_put 12 = .ok (.ishr, 1) := by decide +kernel
theorem dX1_put_13 : decode cX1_put 13 = .ok (.sipush 255, 3) := by decide +kernel
theorem dX1_put_16 : decode cX1_put 16 = .ok (.iand, 1) := by decide +kernel
theorem dX1_put_17 : decode cX1_put 17 = .ok (.istore 4, 2) := by decide +kernel
theorem dX1_put_19 : decode cX1_put 19 = .ok (.iload 4, 2) := by decide +kernel
theorem dX1_put_21 : decode cX1_put 21 = .ok (.ifCond .eq 32, 3) := by decide +kernel
theorem dX1_put_24 : decode cX1_put 24 = .ok (.iload 4, 2) := by decide +kernel
theorem dX1_put_26 : decode cX1_put 26 = .ok (.bipush 10, 2) := by decide +kernel
theorem dX1_put_28 : decode cX1_put 28 = .ok (.if_icmp .eq 25, 3) := by decide +kernel
theorem dX1_put_31 : decode cX1_put 31 = .ok (.iload 4, 2) := by decide +kernel
theorem dX1_put_33 : decode cX1_put 33 = .ok (.bipush 32, 2) := by decide +kernel
theorem dX1_put_35 : decode cX1_put 35 = .ok (.if_icmp .lt 10, 3) := by decide +kernel
theorem dX1_put_38 : decode cX1_put 38 = .ok (.iload 4, 2) := by decide +kernel
theorem dX1_put_40 : decode cX1_put 40 = .ok (.bipush 126, 2) := by decide +kernel
theorem dX1_put_42 : decode cX1_put 42 = .ok (.if_icmp .le 11, 3) := by decide +kernel
theorem dX1_put_45 : decode cX1_put 45 = .ok (.new 54, 3) := by decide +kernel
theorem dX1_put_48 : decode cX1_put 48 = .ok (.dup, 1) := by decide +kernel
theorem dX1_put_49 : decode cX1_put 49 = .ok (.invokespecial 56, 3) := by decide +kernel
theorem dX1_put_52 : decode cX1_put 52 = .ok (.athrow, 1) := by decide +kernel
theorem dX1_put_53 : decode cX1_put 53 = .ok (.iload_n 2, 1) := by decide +kernel
theorem dX1_put_54 : decode cX1_put 54 = .ok (.iload 4, 2) := by decide +kernel
theorem dX1_put_56 : decode cX1_put 56 = .ok (.ifCond .eq 7, 3) := by decide +kernel
theorem dX1_put_59 : decode cX1_put 59 = .ok (.iconst 1, 1) := by decide +kernel
theorem dX1_put_60 : decode cX1_put 60 = .ok (.goto 4, 3) := by decide +kernel
theorem dX1_put_63 : decode cX1_put 63 = .ok (.iconst 0, 1) := by decide +kernel
theorem dX1_put_64 : decode cX1_put 64 = .ok (.iadd, 1) := by decide +kernel
theorem dX1_put_65 : decode cX1_put 65 = .ok (.istore_n 2, 1) := by decide +kernel
theorem dX1_put_66 : decode cX1_put 66 = .ok (.iinc 3 8, 3) := by decide +kernel
theorem dX1_put_69 : decode cX1_put 69 = .ok (.goto (-65), 3) := by decide +kernel
theorem dX1_put_72 : decode cX1_put 72 = .ok (.aload_n 0, 1) := by decide +kernel
theorem dX1_put_73 : decode cX1_put 73 = .ok (.getfield 57, 3) := by decide +kernel
theorem dX1_put_76 : decode cX1_put 76 = .ok (.iload_n 2, 1) := by decide +kernel
theorem dX1_put_77 : decode cX1_put 77 = .ok (.iadd, 1) := by decide +kernel
theorem dX1_put_78 : decode cX1_put 78 = .ok (.sipush 3000, 3) := by decide +kernel
theorem dX1_put_81 : decode cX1_put 81 = .ok (.if_icmp .le 11, 3) := by decide +kernel
theorem dX1_put_84 : decode cX1_put 84 = .ok (.new 60, 3) := by decide +kernel
theorem dX1_put_87 : decode cX1_put 87 = .ok (.dup, 1) := by decide +kernel
theorem dX1_put_88 : decode cX1_put 88 = .ok (.invokespecial 62, 3) := by decide +kernel
theorem dX1_put_91 : decode cX1_put 91 = .ok (.athrow, 1) := by decide +kernel
theorem dX1_put_92 : decode cX1_put 92 = .ok (.iconst 0, 1) := by decide +kernel
theorem dX1_put_93 : decode cX1_put 93 = .ok (.istore_n 3, 1) := by decide +kernel
theorem dX1_put_94 : decode cX1_put 94 = .ok (.iload_n 3, 1) := by decide +kernel
theorem dX1_put_95 : decode cX1_put 95 = .ok (.bipush 32, 2) := by decide +kernel
theorem dX1_put_97 : decode cX1_put 97 = .ok (.if_icmp .ge 48, 3) := by decide +kernel
theorem dX1_put_100 : decode cX1_put 100 = .ok (.iload_n 1, 1) := by decide +kernel
theorem dX1_put_101 : decode cX1_put 101 = .ok (.iload_n 3, 1) := by decide +kernel
theorem dX1_put_102 : decode cX1_put 102 = .ok (.ishr, 1) := by decide +kernel
theorem dX1_put_103 : decode cX1_put 103 = .ok (.sipush 255, 3) := by decide +kernel
theorem dX1_put_106 : decode cX1_put 106 = .ok (.iand, 1) := by decide +kernel
theorem dX1_put_107 : decode cX1_put 107 = .ok (.istore 4, 2) := by decide +kernel
theorem dX1_put_109 : decode cX1_put 109 = .ok (.iload 4, 2) := by decide +kernel
theorem dX1_put_111 : decode cX1_put 111 = .ok (.ifCond .ne 6, 3) := by decide +kernel
theorem dX1_put_114 : decode cX1_put 114 = .ok (.goto 25, 3) := by decide +kernel
theorem dX1_put_117 : decode cX1_put 117 = .ok (.aload_n 0, 1) := by decide +kernel
theorem dX1_put_118 : decode cX1_put 118 = .ok (.getfield 29, 3) := by decide +kernel
theorem dX1_put_121 : decode cX1_put 121 = .ok (.aload_n 0, 1) := by decide +kernel
theorem dX1_put_122 : decode cX1_put 122 = .ok (.getfield 57, 3) := by decide +kernel
theorem dX1_put_125 : decode cX1_put 125 = .ok (.iload 4, 2) := by decide +kernel
theorem dX1_put_127 : decode cX1_put 127 = .ok (.i2c, 1) := by decide +kernel
theorem dX1_put_128 : decode cX1_put 128 = .ok (.castore, 1) := by decide +kernel
theorem dX1_put_129 : decode cX1_put 129 = .ok (.aload_n 0, 1) := by decide +kernel
theorem dX1_put_130 : decode cX1_put 130 = .ok (.dup, 1) := by decide +kernel
theorem dX1_put_131 : decode cX1_put 131 = .ok (.getfield 57, 3) := by decide +kernel
theorem dX1_put_134 : decode cX1_put 134 = .ok (.iconst 1, 1) := by decide +kernel
theorem dX1_put_135 : decode cX1_put 135 = .ok (.iadd, 1) := by decide +kernel
theorem dX1_put_136 : decode cX1_put 136 = .ok (.putfield 57, 3) := by decide +kernel
theorem dX1_put_139 : decode cX1_put 139 = .ok (.iinc 3 8, 3) := by decide +kernel
theorem dX1_put_142 : decode cX1_put 142 = .ok (.goto (-48), 3) := by decide +kernel
theorem dX1_put_145 : decode cX1_put 145 = .ok (.aload_n 0, 1) := by decide +kernel
theorem dX1_put_146 : decode cX1_put 146 = .ok (.getfield 57, 3) := by decide +kernel
theorem dX1_put_149 : decode cX1_put 149 = .ok (.ireturn, 1) := by decide +kernel
theorem mw_X1_put : MW yX1_put (Cond.code yX1_put cX1_put 5 (Option.some Jvm.ClassFile.FieldType.int)) cX1_put 5 (Option.some Jvm.ClassFile.FieldType.int) 1 := ⟨rfl, ⟨(lw_all_tbl q490), rfl, (lw_all_tbl q163)⟩, rfl, ⟨by decide, by decide⟩, by decide +kernel⟩
abbrev okc_X1_put_94 (x : Int × Int × Int) : Prop := R32 x.2.1 ∧ R32 x.2.2
abbrev lvc_X1_put_94 (Γ : Gm) (x : Int × Int × Int) : List (Nat × Value) := [(0, vA (mg Γ) x.1), (1, vI x.2.1), (3, vI x.2.2)]
noncomputable def c_X1_put_139 {A : Type} (k_145 : Int → Mo CH A) (l0 : Int) (l1 : Int) (l3 : Int) : Mo CH ((Int × Int × Int) ⊕ A) :=
  pr (.inl (l0, l1, (w32 (l3 + 8))))
theorem sc_X1_put_139 {Γ : Gm} {ts : TS} {d : Nat} (hX : Xt Γ []) (o : Ok Γ "LazyForge" cX1_put 5 (Option.some Jvm.ClassFile.FieldType.int) (d + 8)) {A : Type} {K : A → CH → Prop}  (k_145 : Int → Mo CH A) (hk_145 : ∀ (l0 : Int), Sx Γ (fun h => (h, ts)) K 145 [(0, vA (mg Γ) l0)] [] (k_145 l0)) (l0 : Int) (l1 : Int) (l3 : Int) (hl1 : R32 l1) (hl3 : R32 l3) : Sx Γ (fun h => (h, ts)) (KL Γ (fun h => (h, ts)) okc_X1_put_94 K 94 (lvc_X1_put_94 Γ) []) 139 [(0, vA (mg Γ) l0), (1, vI l1), (3, vI l3)] [] (c_X1_put_139 k_145 l0 l1 l3) := by
  unfold c_X1_put_139
  refine r_iinc (j := 2) o dX1_put_139 rfl rfl [(0, vA (mg Γ) l0), (1, vI l1)] [0, 1] rfl ⟨(Nat.ne_of_beq_eq_false rfl), (fun _ => (vA_cat (mg Γ) l0)), ⟨(Nat.ne_of_beq_eq_false rfl), (fun _ => rfl), trivial⟩⟩ ?_
  refine s_goto (tgt := 94) o dX1_put_142 (by decide) ?_
  refine r_to [(0, vA (mg Γ) l0), (1, vI l1), (3, vI (w32 (l3 + 8)))] [1, 2, 0] rfl ?_
  exact s_back (⟨hl1, (w32_R _)⟩) rfl
noncomputable def c_X1_put_94b {A : Type} (k_145 : Int → Mo CH A) (l0 : Int) (l1 : Int) (l3 : Int) : Mo CH ((Int × Int × Int) ⊕ A) :=
  if 32 ≤ l3 then
    lo (k_145 l0)
  else
    if ¬ (iand (ishr l1 l3) 255) = 0 then
      bnd (gf [101] 0 l0) fun v1 =>
      bnd (gf [101] 1 l0) fun v2 =>
      bnd (ast 2 v1 v2 (i2c (iand (ishr l1 l3) 255))) fun _ =>
      bnd (gf [101] 1 l0) fun v3 =>
      bnd (pf [101] 1 l0 (w32 (v3 + 1))) fun _ =>
      c_X1_put_139 k_145 l0 l1 l3
    else
      c_X1_put_139 k_145 l0 l1 l3
theorem sc_X1_put_94b {Γ : Gm} {ts : TS} {d : Nat} (hX : Xt Γ []) (o : Ok Γ "LazyForge" cX1_put 5 (Option.some Jvm.ClassFile.FieldType.int) (d + 8)) {A : Type} {K : A → CH → Prop} (k_145 : Int → Mo CH A) (hk_145 : ∀ (l0 : Int), Sx Γ (fun h => (h, ts)) K 145 [(0, vA (mg Γ) l0)] [] (k_145 l0)) (l0 : Int) (l1 : Int) (l3 : Int) (hl1 : R32 l1) (hl3 : R32 l3) : Sx Γ (fun h => (h, ts)) (KL Γ (fun h => (h, ts)) okc_X1_put_94 K 94 (lvc_X1_put_94 Γ) []) 94 [(0, vA (mg Γ) l0), (1, vI l1), (3, vI l3)] [] (c_X1_put_94b k_145 l0 l1 l3) := by
  unfold c_X1_put_94b
  refine s_iload_n o dX1_put_94 rfl 2 rfl ?_
  refine s_bipush o dX1_put_95 rfl ?_
  refine s_icmp_ge (tgt := 145) o dX1_put_97 (by decide) hl3 (r32 rfl) ?_ ?_
  · refine r_to [(0, vA (mg Γ) l0)] [0] rfl ?_
    exact s_lo (hk_145 l0)
  · refine s_iload_n o dX1_put_100 rfl 1 rfl ?_
    refine s_iload_n o dX1_put_101 rfl 2 rfl ?_
    refine s_ishr o dX1_put_102 ?_
    refine s_sipush o dX1_put_103 rfl ?_
    refine s_iand o dX1_put_106 ?_
    refine r_istore o dX1_put_107 rfl ⟨(Nat.ne_of_beq_eq_false rfl), (fun _ => (vA_cat (mg Γ) l0)), ⟨(Nat.ne_of_beq_eq_false rfl), (fun _ => rfl), ⟨(Nat.ne_of_beq_eq_false rfl), (fun _ => rfl), trivial⟩⟩⟩ ?_
    refine s_iload o dX1_put_109 0 rfl ?_
    refine s_if_ne (tgt := 117) o dX1_put_111 (by decide) (iand_R _ _) ?_ ?_
    · refine s_aload_n o dX1_put_117 rfl 1 rfl ?_
      refine r_getf (vA (mg Γ)) rfl o cf_X1_text (Or.inl (lw_all_tbl q440)) dX1_put_118 (fun v1 hv1 => ?_)
      refine s_aload_n o dX1_put_121 rfl 1 rfl ?_
      refine r_getf vI rfl o cf_X1_size (Or.inl (lw_all_tbl q441)) dX1_put_122 (fun v2 hv2 => ?_)
      refine s_iload o dX1_put_125 0 rfl ?_
      refine s_i2c o dX1_put_127 ?_
      refine r_cast o hv2 (i2c_R _) dX1_put_128 ?_
      refine s_aload_n o dX1_put_129 rfl 1 rfl ?_
      refine s_dup o dX1_put_130 (vA_cat (mg Γ) l0) ?_
      refine r_getf vI rfl o cf_X1_size (Or.inl (lw_all_tbl q441)) dX1_put_131 (fun v3 hv3 => ?_)
      refine s_iconst o dX1_put_134 ?_
      refine s_iadd o dX1_put_135 ?_
      refine r_putf vI rfl o cf_X1_size (Or.inl (lw_all_tbl q441)) dX1_put_136 (Or.inl rfl) (w32_R _) ty_int ?_
      refine r_to [(0, vA (mg Γ) l0), (1, vI l1), (3, vI l3)] [1, 2, 3] rfl ?_
      exact sc_X1_put_139 hX o k_145 hk_145 l0 l1 l3 hl1 hl3
    · refine s_goto (tgt := 139) o dX1_put_114 (by decide) ?_
      refine r_to [(0, vA (mg Γ) l0), (1, vI l1), (3, vI l3)] [1, 2, 3] rfl ?_
      exact sc_X1_put_139 hX o k_145 hk_145 l0 l1 l3 hl1 hl3
noncomputable def c_X1_put_94 {A : Type} (k_145 : Int → Mo CH A) (l0 : Int) (l1 : Int) (l3 : Int) : Mo CH A := Loop (fun x => c_X1_put_94b k_145 x.1 x.2.1 x.2.2) (l0, l1, l3)
theorem sc_X1_put_94 {Γ : Gm} {ts : TS} {d : Nat} (hX : Xt Γ []) (o : Ok Γ "LazyForge" cX1_put 5 (Option.some Jvm.ClassFile.FieldType.int) (d + 8)) {A : Type} {K : A → CH → Prop} (k_145 : Int → Mo CH A) (hk_145 : ∀ (l0 : Int), Sx Γ (fun h => (h, ts)) K 145 [(0, vA (mg Γ) l0)] [] (k_145 l0)) (l0 : Int) (l1 : Int) (l3 : Int) (hl1 : R32 l1) (hl3 : R32 l3) : Sx Γ (fun h => (h, ts)) K 94 [(0, vA (mg Γ) l0), (1, vI l1), (3, vI l3)] [] (c_X1_put_94 k_145 l0 l1 l3) :=
  s_loop okc_X1_put_94 (lvc_X1_put_94 Γ) (fun x hx => sc_X1_put_94b hX o k_145 hk_145 x.1 x.2.1 x.2.2 hx.1 hx.2) (x := (l0, l1, l3)) ⟨hl1, hl3⟩
abbrev okc_X1_put_4 (x : Int × Int × Int × Int) : Prop := R32 x.2.1 ∧ R32 x.2.2.1 ∧ R32 x.2.2.2
abbrev lvc_X1_put_4 (Γ : Gm) (x : Int × Int × Int × Int) : List (Nat × Value) := [(0, vA (mg Γ) x.1), (1, vI x.2.1), (2, vI x.2.2.1), (3, vI x.2.2.2)]
noncomputable def c_X1_put_64 {A : Type} (k_45 : Mo CH A) (k_72 : Int → Int → Int → Mo CH A) (l0 : Int) (l1 : Int) (l3 : Int) (k0 : Int) (k1 : Int) : Mo CH ((Int × Int × Int × Int) ⊕ A) :=
  pr (.inl (l0, l1, (w32 (k1 + k0)), (w32 (l3 + 8))))
theorem sc_X1_put_64 {Γ : Gm} {ts : TS} {d : Nat} (hX : Xt Γ []) (o : Ok Γ "LazyForge" cX1_put 5 (Option.some Jvm.ClassFile.FieldType.int) (d + 8)) {A : Type} {K : A → CH → Prop}  (k_45 : Mo CH A) (k_72 : Int → Int → Int → Mo CH A) (hk_45 : Sx Γ (fun h => (h, ts)) K 45 [] [] (k_45)) (hk_72 : ∀ (l0 : Int) (l1 : Int) (l2 : Int), R32 l1 → R32 l2 → Sx Γ (fun h => (h, ts)) K 72 [(0, vA (mg Γ) l0), (1, vI l1), (2, vI l2)] [] (k_72 l0 l1 l2)) (l0 : Int) (l1 : Int) (l3 : Int) (k0 : Int) (k1 : Int) (hl1 : R32 l1) (hl3 : R32 l3) (hk0 : rg .boolean k0) (hk1 : R32 k1) : Sx Γ (fun h => (h, ts)) (KL Γ (fun h => (h, ts)) okc_X1_put_4 K 4 (lvc_X1_put_4 Γ) []) 64 [(0, vA (mg Γ) l0), (1, vI l1), (3, vI l3)] [vI k0, vI k1] (c_X1_put_64 k_45 k_72 l0 l1 l3 k0 k1) := by
  unfold c_X1_put_64
  refine s_iadd o dX1_put_64 ?_
  refine r_istore_n o dX1_put_65 rfl rfl ⟨(Nat.ne_of_beq_eq_false rfl), (fun _ => (vA_cat (mg Γ) l0)), ⟨(Nat.ne_of_beq_eq_false rfl), (fun _ => rfl), ⟨(Nat.ne_of_beq_eq_false rfl), (fun _ => rfl), trivial⟩⟩⟩ ?_
  refine r_iinc (j := 3) o dX1_put_66 rfl rfl [(2, vI (w32 (k1 + k0))), (0, vA (mg Γ) l0), (1, vI l1)] [0, 1, 2] rfl ⟨(Nat.ne_of_beq_eq_false rfl), (fun _ => rfl), ⟨(Nat.ne_of_beq_eq_false rfl), (fun _ => (vA_cat (mg Γ) l0)), ⟨(Nat.ne_of_beq_eq_false rfl), (fun _ => rfl), trivial⟩⟩⟩ ?_
  refine s_goto (tgt := 4) o dX1_put_69 (by decide) ?_
  refine r_to [(0, vA (mg Γ) l0), (1, vI l1), (2, vI (w32 (k1 + k0))), (3, vI (w32 (l3 + 8)))] [2, 3, 1, 0] rfl ?_
  exact s_back (⟨hl1, (w32_R _), (w32_R _)⟩) rfl
noncomputable def c_X1_put_53 {A : Type} (k_45 : Mo CH A) (k_72 : Int → Int → Int → Mo CH A) (l0 : Int) (l1 : Int) (l2 : Int) (l3 : Int) (l4 : Int) : Mo CH ((Int × Int × Int × Int) ⊕ A) :=
  if l4 = 0 then
    c_X1_put_64 k_45 k_72 l0 l1 l3 0 l2
  else
    c_X1_put_64 k_45 k_72 l0 l1 l3 1 l2
theorem sc_X1_put_53 {Γ : Gm} {ts : TS} {d : Nat} (hX : Xt Γ []) (o : Ok Γ "LazyForge" cX1_put 5 (Option.some Jvm.ClassFile.FieldType.int) (d + 8)) {A : Type} {K : A → CH → Prop}  (k_45 : Mo CH A) (k_72 : Int → Int → Int → Mo CH A) (hk_45 : Sx Γ (fun h => (h, ts)) K 45 [] [] (k_45)) (hk_72 : ∀ (l0 : Int) (l1 : Int) (l2 : Int), R32 l1 → R32 l2 → Sx Γ (fun h => (h, ts)) K 72 [(0, vA (mg Γ) l0), (1, vI l1), (2, vI l2)] [] (k_72 l0 l1 l2)) (l0 : Int) (l1 : Int) (l2 : Int) (l3 : Int) (l4 : Int) (hl1 : R32 l1) (hl2 : R32 l2) (hl3 : R32 l3) (hl4 : R32 l4) : Sx Γ (fun h => (h, ts)) (KL Γ (fun h => (h, ts)) okc_X1_put_4 K 4 (lvc_X1_put_4 Γ) []) 53 [(0, vA (mg Γ) l0), (1, vI l1), (2, vI l2), (3, vI l3), (4, vI l4)] [] (c_X1_put_53 k_45 k_72 l0 l1 l2 l3 l4) := by
  unfold c_X1_put_53
  refine s_iload_n o dX1_put_53 rfl 2 rfl ?_
  refine s_iload o dX1_put_54 4 rfl ?_
  refine s_if_eq (tgt := 63) o dX1_put_56 (by decide) hl4 ?_ ?_
  · refine s_iconst o dX1_put_63 ?_
    refine r_to [(0, vA (mg Γ) l0), (1, vI l1), (3, vI l3)] [0, 1, 3] rfl ?_
    exact sc_X1_put_64 hX o k_45 k_72 hk_45 hk_72 l0 l1 l3 0 l2 hl1 hl3 (Or.inl rfl) hl2
  · refine s_iconst o dX1_put_59 ?_
    refine s_goto (tgt := 64) o dX1_put_60 (by decide) ?_
    refine r_to [(0, vA (mg Γ) l0), (1, vI l1), (3, vI l3)] [0, 1, 3] rfl ?_
    exact sc_X1_put_64 hX o k_45 k_72 hk_45 hk_72 l0 l1 l3 1 l2 hl1 hl3 (Or.inr rfl) hl2
noncomputable def c_X1_put_4b {A : Type} (k_45 : Mo CH A) (k_72 : Int → Int → Int → Mo CH A) (l0 : Int) (l1 : Int) (l2 : Int) (l3 : Int) : Mo CH ((Int × Int × Int × Int) ⊕ A) :=
  if 32 ≤ l3 then
    lo (k_72 l0 l1 l2)
  else
    if (iand (ishr l1 l3) 255) = 0 then
      c_X1_put_53 k_45 k_72 l0 l1 l2 l3 (iand (ishr l1 l3) 255)
    else
      if (iand (ishr l1 l3) 255) = 10 then
        c_X1_put_53 k_45 k_72 l0 l1 l2 l3 (iand (ishr l1 l3) 255)
      else
        if (iand (ishr l1 l3) 255) < 32 then
          lo k_45
        else
          if (iand (ishr l1 l3) 255) ≤ 126 then
            c_X1_put_53 k_45 k_72 l0 l1 l2 l3 (iand (ishr l1 l3) 255)
          else
            lo k_45
theorem sc_X1_put_4b {Γ : Gm} {ts : TS} {d : Nat} (hX : Xt Γ []) (o : Ok Γ "LazyForge" cX1_put 5 (Option.some Jvm.ClassFile.FieldType.int) (d + 8)) {A : Type} {K : A → CH → Prop} (k_45 : Mo CH A) (k_72 : Int → Int → Int → Mo CH A) (hk_45 : Sx Γ (fun h => (h, ts)) K 45 [] [] (k_45)) (hk_72 : ∀ (l0 : Int) (l1 : Int) (l2 : Int), R32 l1 → R32 l2 → Sx Γ (fun h => (h, ts)) K 72 [(0, vA (mg Γ) l0), (1, vI l1), (2, vI l2)] [] (k_72 l0 l1 l2)) (l0 : Int) (l1 : Int) (l2 : Int) (l3 : Int) (hl1 : R32 l1) (hl2 : R32 l2) (hl3 : R32 l3) : Sx Γ (fun h => (h, ts)) (KL Γ (fun h => (h, ts)) okc_X1_put_4 K 4 (lvc_X1_put_4 Γ) []) 4 [(0, vA (mg Γ) l0), (1, vI l1), (2, vI l2), (3, vI l3)] [] (c_X1_put_4b k_45 k_72 l0 l1 l2 l3) := by
  unfold c_X1_put_4b
  refine s_iload_n o dX1_put_4 rfl 3 rfl ?_
  refine s_bipush o dX1_put_5 rfl ?_
  refine s_icmp_ge (tgt := 72) o dX1_put_7 (by decide) hl3 (r32 rfl) ?_ ?_
  · refine r_to [(0, vA (mg Γ) l0), (1, vI l1), (2, vI l2)] [0, 1, 2] rfl ?_
    exact s_lo (hk_72 l0 l1 l2 hl1 hl2)
  · refine s_iload_n o dX1_put_10 rfl 1 rfl ?_
    refine s_iload_n o dX1_put_11 rfl 3 rfl ?_
    refine s_ishr o dX1_put_12 ?_
    refine s_sipush o dX1_put_13 rfl ?_
    refine s_iand o dX1_put_16 ?_
    refine r_istore o dX1_put_17 rfl ⟨(Nat.ne_of_beq_eq_false rfl), (fun _ => (vA_cat (mg Γ) l0)), ⟨(Nat.ne_of_beq_eq_false rfl), (fun _ => rfl), ⟨(Nat.ne_of_beq_eq_false rfl), (fun _ => rfl), ⟨(Nat.ne_of_beq_eq_false rfl), (fun _ => rfl), trivial⟩⟩⟩⟩ ?_
    refine s_iload o dX1_put_19 0 rfl ?_
    refine s_if_eq (tgt := 53) o dX1_put_21 (by decide) (iand_R _ _) ?_ ?_
    · refine r_to [(0, vA (mg Γ) l0), (1, vI l1), (2, vI l2), (3, vI l3), (4, vI (iand (ishr l1 l3) 255))] [1, 2, 3, 4, 0] rfl ?_
      exact sc_X1_put_53 hX o k_45 k_72 hk_45 hk_72 l0 l1 l2 l3 (iand (ishr l1 l3) 255) hl1 hl2 hl3 (iand_R _ _)
    · refine s_iload o dX1_put_24 0 rfl ?_
      refine s_bipush o dX1_put_26 rfl ?_
      refine s_icmp_eq (tgt := 53) o dX1_put_28 (by decide) (iand_R _ _) (r32 rfl) ?_ ?_
      · refine r_to [(0, vA (mg Γ) l0), (1, vI l1), (2, vI l2), (3, vI l3), (4, vI (iand (ishr l1 l3) 255))] [1, 2, 3, 4, 0] rfl ?_
        exact sc_X1_put_53 hX o k_45 k_72 hk_45 hk_72 l0 l1 l2 l3 (iand (ishr l1 l3) 255) hl1 hl2 hl3 (iand_R _ _)
      · refine s_iload o dX1_put_31 0 rfl ?_
        refine s_bipush o dX1_put_33 rfl ?_
        refine s_icmp_lt (tgt := 45) o dX1_put_35 (by decide) (iand_R _ _) (r32 rfl) ?_ ?_
        · refine r_to [] [] rfl ?_
          exact s_lo hk_45
        · refine s_iload o dX1_put_38 0 rfl ?_
          refine s_bipush o dX1_put_40 rfl ?_
          refine s_icmp_le (tgt := 53) o dX1_put_42 (by decide) (iand_R _ _) (r32 rfl) ?_ ?_
          · refine r_to [(0, vA (mg Γ) l0), (1, vI l1), (2, vI l2), (3, vI l3), (4, vI (iand (ishr l1 l3) 255))] [1, 2, 3, 4, 0] rfl ?_
            exact sc_X1_put_53 hX o k_45 k_72 hk_45 hk_72 l0 l1 l2 l3 (iand (ishr l1 l3) 255) hl1 hl2 hl3 (iand_R _ _)
          · refine r_to [] [] rfl ?_
            exact s_lo hk_45
noncomputable def c_X1_put_4 {A : Type} (k_45 : Mo CH A) (k_72 : Int → Int → Int → Mo CH A) (l0 : Int) (l1 : Int) (l2 : Int) (l3 : Int) : Mo CH A := Loop (fun x => c_X1_put_4b k_45 k_72 x.1 x.2.1 x.2.2.1 x.2.2.2) (l0, l1, l2, l3)
theorem sc_X1_put_4 {Γ : Gm} {ts : TS} {d : Nat} (hX : Xt Γ []) (o : Ok Γ "LazyForge" cX1_put 5 (Option.some Jvm.ClassFile.FieldType.int) (d + 8)) {A : Type} {K : A → CH → Prop} (k_45 : Mo CH A) (k_72 : Int → Int → Int → Mo CH A) (hk_45 : Sx Γ (fun h => (h, ts)) K 45 [] [] (k_45)) (hk_72 : ∀ (l0 : Int) (l1 : Int) (l2 : Int), R32 l1 → R32 l2 → Sx Γ (fun h => (h, ts)) K 72 [(0, vA (mg Γ) l0), (1, vI l1), (2, vI l2)] [] (k_72 l0 l1 l2)) (l0 : Int) (l1 : Int) (l2 : Int) (l3 : Int) (hl1 : R32 l1) (hl2 : R32 l2) (hl3 : R32 l3) : Sx Γ (fun h => (h, ts)) K 4 [(0, vA (mg Γ) l0), (1, vI l1), (2, vI l2), (3, vI l3)] [] (c_X1_put_4 k_45 k_72 l0 l1 l2 l3) :=
  s_loop okc_X1_put_4 (lvc_X1_put_4 Γ) (fun x hx => sc_X1_put_4b hX o k_45 k_72 hk_45 hk_72 x.1 x.2.1 x.2.2.1 x.2.2.2 hx.1 hx.2.1 hx.2.2) (x := (l0, l1, l2, l3)) ⟨hl1, hl2, hl3⟩
noncomputable def c_X1_put (l0 : Int) (l1 : Int) : Mo CH (Nat × Int) :=
  c_X1_put_4
    (bnd (thr 28) fun x => pr (1, x))
    (fun v1 v2 v3 => bnd (gf [101] 1 v1) fun v4 =>
  if (w32 (v4 + v3)) ≤ 3000 then
    c_X1_put_94
      (fun v5 => bnd (gf [101] 1 v5) fun v6 =>
    pr (0, v6)) v1 v2 0
  else
    bnd (thr 29) fun x => pr (1, x)) l0 l1 0 0
theorem sc_X1_put (g : gC) (d : Nat) (ts : TS) (l0 : Int) (l1 : Int) (hl1 : R32 l1) : SX g yX1_put (Cond.code yX1_put cX1_put 5 (Option.some Jvm.ClassFile.FieldType.int)) (Option.some Jvm.ClassFile.FieldType.int) (d + 8) [vA g l0, vI l1] (fun h => (h, ts)) (c_X1_put l0 l1) := by
  refine SX.of (lv := [(0, vA g l0), (1, vI l1)]) (by decide) (wt_A (wt_I wt_0)) rfl (by simp only [la_A, la_I, la_J, la_0]) (fun Γ hg hnm o hX => ?_)
  subst hg
  have o : Ok Γ "LazyForge" cX1_put 5 (Option.some Jvm.ClassFile.FieldType.int) (d + 8) := o
  unfold c_X1_put
  refine s_iconst o dX1_put_0 ?_
  refine r_istore_n o dX1_put_1 rfl rfl ⟨(Nat.ne_of_beq_eq_false rfl), (fun _ => (vA_cat (mg Γ) l0)), ⟨(Nat.ne_of_beq_eq_false rfl), (fun _ => rfl), trivial⟩⟩ ?_
  refine s_iconst o dX1_put_2 ?_
  refine r_istore_n o dX1_put_3 rfl rfl ⟨(Nat.ne_of_beq_eq_false rfl), (fun _ => rfl), ⟨(Nat.ne_of_beq_eq_false rfl), (fun _ => (vA_cat (mg Γ) l0)), ⟨(Nat.ne_of_beq_eq_false rfl), (fun _ => rfl), trivial⟩⟩⟩ ?_
  refine r_to [(0, vA (mg Γ) l0), (1, vI l1), (2, vI 0), (3, vI 0)] [2, 3, 1, 0] rfl ?_
  refine sc_X1_put_4 hX o _ _ ?_ ?_ l0 l1 0 0 hl1 (r32 rfl) (r32 rfl)
  · exact s_throw (d := d + 0) o hX mk_28 (by decide) (lw_all_tbl q491) at_28 (by decide +kernel) dX1_put_45 dX1_put_48 dX1_put_49 dX1_put_52 (fun _ _ hh => hh)
  · intro v1 v2 v3 hv2 hv3
    refine s_aload_n o dX1_put_72 rfl 0 rfl ?_
    refine r_getf vI rfl o cf_X1_size (Or.inl (lw_all_tbl q441)) dX1_put_73 (fun v4 hv4 => ?_)
    refine s_iload_n o dX1_put_76 rfl 2 rfl ?_
    refine s_iadd o dX1_put_77 ?_
    refine s_sipush o dX1_put_78 rfl ?_
    refine s_icmp_le (tgt := 92) o dX1_put_81 (by decide) (w32_R _) (r32 rfl) ?_ ?_
    · refine s_iconst o dX1_put_92 ?_
      refine r_istore_n o dX1_put_93 rfl rfl ⟨(Nat.ne_of_beq_eq_false rfl), (fun _ => (vA_cat (mg Γ) v1)), ⟨(Nat.ne_of_beq_eq_false rfl), (fun _ => rfl), ⟨(Nat.ne_of_beq_eq_false rfl), (fun _ => rfl), trivial⟩⟩⟩ ?_
      refine r_to [(0, vA (mg Γ) v1), (1, vI v2), (3, vI 0)] [1, 2, 0] rfl ?_
      refine sc_X1_put_94 hX o _ ?_ v1 v2 0 hv2 (r32 rfl)
      · intro v5
        refine s_aload_n o dX1_put_145 rfl 0 rfl ?_
        refine r_getf vI rfl o cf_X1_size (Or.inl (lw_all_tbl q441)) dX1_put_146 (fun v6 hv6 => ?_)
        exact s_iret o rfl i_int hv6 dX1_put_149 (fun _ hh => hh)
    · exact s_throw (d := d + 0) o hX mk_29 (by decide) (lw_all_tbl q557) at_29 (by decide +kernel) dX1_put_84 dX1_put_87 dX1_put_88 dX1_put_91 (fun _ _ hh => hh)
