/-! PRINTED: the twin, methods 122 to 134 -/
set_option maxRecDepth 100000
theorem dX11_begins_0 : decode cX11_begins 0 = .ok (.aload_n 0, 1) := by decide +kernel
theorem dX11_begins_1 : decode cX11_begins 1 = .ok (.getfield 286, 3) := by decide +kernel
theorem dX11_begins_4 : decode cX11_begins 4 = .ok (.lookupswitch 190 #[(11, 36), (13, 83), (192, 125)], 36) := by decide +kernel
theorem dX11_begins_40 : decode cX11_begins 40 = .ok (.aload_n 0, 1) := by decide +kernel
theorem dX11_begins_41 : decode cX11_begins 41 = .ok (.invokevirtual 366, 3) := by decide +kernel
theorem dX11_begins_44 : decode cX11_begins 44 = .ok (.aload_n 0, 1) := by decide +kernel
theorem dX11_begins_45 : decode cX11_begins 45 = .ok (.getfield 311, 3) := by decide +kernel
theorem dX11_begins_48 : decode cX11_begins 48 = .ok (.ifCond .ne 18, 3) := by decide +kernel
theorem dX11_begins_51 : decode cX11_begins 51 = .ok (.aload_n 0, 1) := by decide +kernel
theorem dX11_begins_52 : decode cX11_begins 52 = .ok (.invokevirtual 355, 3) := by decide +kernel
theorem dX11_begins_55 : decode cX11_begins 55 = .ok (.ifCond .eq 11, 3) := by decide +kernel
theorem dX11_begins_58 : decode cX11_begins 58 = .ok (.aload_n 0, 1) := by decide +kernel
theorem dX11_begins_59 : decode cX11_begins 59 = .ok (.iconst 0, 1) := by decide +kernel
theorem dX11_begins_60 : decode cX11_begins 60 = .ok (.invokevirtual 369, 3) := by decide +kernel
theorem dX11_begins_63 : decode cX11_begins 63 = .ok (.goto 4, 3) := by decide +kernel
theorem dX11_begins_66 : decode cX11_begins 66 = .ok (.iconst 0, 1) := by decide +kernel
theorem dX11_begins_67 : decode cX11_begins 67 = .ok (.istore_n 1, 1) := by decide +kernel
theorem dX11_begins_68 : decode cX11_begins 68 = .ok (.aload_n 0, 1) := by decide +kernel
theorem dX11_begins_69 : decode cX11_begins 69 = .ok (.iconst 1, 1) := by decide +kernel
theorem dX11_begins_70 : decode cX11_begins 70 = .ok (.invokevirtual 359, 3) := by decide +kernel
theorem dX11_begins_73 : decode cX11_begins 73 = .ok (.aload_n 0, 1) := by decide +kernel
theorem dX11_begins_74 : decode cX11_begins 74 = .ok (.iconst 3, 1) := by decide +kernel
theorem dX11_begins_75 : decode cX11_begins 75 = .ok (.iload_n 1, 1) := by decide +kernel
theorem dX11_begins_76 : decode cX11_begins 76 = .ok (.iconst 0, 1) := by decide +kernel
theorem dX11_begins_77 : decode cX11_begins 77 = .ok (.invokevirtual 372, 3) := by decide +kernel
theorem dX11_begins_80 : decode cX11_begins 80 = .ok (.aload_n 0, 1) := by decide +kernel
theorem dX11_begins_81 : decode cX11_begins 81 = .ok (.iload_n 1, 1) := by decide +kernel
theorem dX11_begins_82 : decode cX11_begins 82 = .ok (.invokevirtual 376, 3) := by decide +kernel
theorem dX11_begins_85 : decode cX11_begins 85 = .ok (.iconst 1, 1) := by decide +kernel
theorem dX11_begins_86 : decode cX11_begins 86 = .ok (.ireturn, 1) := by decide +kernel
theorem dX11_begins_87 : decode cX11_begins 87 = .ok (.aload_n 0, 1) := by decide +kernel
theorem dX11_begins_88 : decode cX11_begins 88 = .ok (.invokevirtual 366, 3) := by decide +kernel
theorem dX11_begins_91 : decode cX11_begins 91 = .ok (.aload_n 0, 1) := by decide +kernel
theorem dX11_begins_92 : decode cX11_begins 92 = .ok (.getfield 311, 3) := by decide +kernel
theorem dX11_begins_95 : decode cX11_begins 95 = .ok (.ifCond .ne 18, 3) := by decide +kernel
theorem dX11_begins_98 : decode cX11_begins 98 = .ok (.aload_n 0, 1) := by decide +kernel
theorem dX11_begins_99 : decode cX11_begins 99 = .ok (.invokevirtual 355, 3) := by decide +kernel
theorem dX11_begins_102 : decode cX11_begins 102 = .ok (.ifCond .eq 11, 3) := by decide +kernel
theorem dX11_begins_105 : decode cX11_begins 105 = .ok (.aload_n 0, 1) := by decide +kernel
theorem dX11_begins_106 : decode cX11_begins 106 = .ok (.iconst 3, 1) := by decide +kernel
theorem dX11_begins_107 : decode cX11_begins 107 = .ok (.invokevirtual 369, 3) := by decide +kernel
theorem dX11_begins_110 : decode cX11_begins 110 = .ok (.goto 4, 3) := by decide +kernel
theorem dX11_begins_113 : decode cX11_begins 113 = .ok (.iconst 0, 1) := by decide +kernel
theorem dX11_begins_114 : decode cX11_begins 114 = .ok (.istore_n 1, 1) := by decide +kernel
theorem dX11_begins_115 : decode cX11_begins 115 = .ok (.aload_n 0, 1) := by decide +kernel
theorem dX11_begins_116 : decode cX11_begins 116 = .ok (.iconst 1, 1) := by decide +kernel
theorem dX11_begins_117 : decode cX11_begins 117 = .ok (.invokevirtual 359, 3) := by decide +kernel
theorem dX11_begins_120 : decode cX11_begins 120 = .ok (.aload_n 0, 1) := by decide +kernel
theorem dX11_begins_121 : decode cX11_begins 121 = .ok (.iconst 5, 1) := by decide +kernel
theorem dX11_begins_122 : decode cX11_begins 122 = .ok (.iload_n 1, 1) := by decide +kernel
theorem dX11_begins_123 : decode cX11_begins 123 = .ok (.iconst 0, 1) := by decide +kernel
theorem dX11_begins_124 : decode cX11_begins 124 = .ok (.invokevirtual 372, 3) := by decide +kernel
theorem dX11_begins_127 : decode cX11_begins 127 = .ok (.iconst 1, 1) := by decide +kernel
theorem dX11_begins_128 : decode cX11_begins 128 = .ok (.ireturn, 1) := by decide +kernel
theorem dX11_begins_129 : decode cX11_begins 129 = .ok (.aload_n 0, 1) := by decide +kernel
theorem dX11_begins_130 : decode cX11_begins 130 = .ok (.invokevirtual 366, 3) := by decide +kernel
theorem dX11_begins_133 : decode cX11_begins 133 = .ok (.aload_n 0, 1) := by decide +kernel
theorem dX11_begins_134 : decode cX11_begins 134 = .ok (.getfield 311, 3) := by decide +kernel
theorem dX11_begins_137 : decode cX11_begins 137 = .ok (.ifCond .ne 18, 3) := by decide +kernel
theorem dX11_begins_140 : decode cX11_begins 140 = .ok (.aload_n 0, 1) := by decide +kernel
theorem dX11_begins_141 : decode cX11_begins 141 = .ok (.invokevirtual 355, 3) := by decide +kernel
theorem dX11_begins_144 : decode cX11_begins 144 = .ok (.ifCond .eq 11, 3) := by decide +kernel
theorem dX11_begins_147 : decode cX11_begins 147 = .ok (.aload_n 0, 1) := by decide +kernel
theorem dX11_begins_148 : decode cX11_begins 148 = .ok (.iconst 2, 1) := by decide +kernel
theorem dX11_begins_149 : decode cX11_begins 149 = .ok (.invokevirtual 369, 3) := by decide +kernel
theorem dX11_begins_152 : decode cX11_begins 152 = .ok (.goto 4, 3) := by decide +kernel
theorem dX11_begins_155 : decode cX11_begins 155 = .ok (.iconst 0, 1) := by decide +kernel
theorem dX11_begins_156 : decode cX11_begins 156 = .ok (.istore_n 1, 1) := by decide +kernel
theorem dX11_begins_157 : decode cX11_begins 157 = .ok (.aload_n 0, 1) := by decide +kernel
theorem dX11_begins_158 : decode cX11_begins 158 = .ok (.iconst 1, 1) := by decide +kernel
theorem dX11_begins_159 : decode cX11_begins 159 = .ok (.invokevirtual 359, 3) := by decide +kernel
theorem dX11_begins_162 : decode cX11_begins 162 = .ok (.aload_n 0, 1) := by decide +kernel
theorem dX11_begins_163 : decode cX11_begins 163 = .ok (.getfield 311, 3) := by decide +kernel
theorem dX11_begins_166 : decode cX11_begins 166 = .ok (.ifCond .ne 9, 3) := by decide +kernel
theorem dX11_begins_169 : decode cX11_begins 169 = .ok (.aload_n 0, 1) := by decide +kernel
theorem dX11_begins_170 : decode cX11_begins 170 = .ok (.iload_n 1, 1) := by decide +kernel
theorem dX11_begins_171 : decode cX11_begins 171 = .ok (.iconst 1, 1) := by decide +kernel
theorem dX11_begins_172 : decode cX11_begins 172 = .ok (.invokevirtual 380, 3) := by decide +kernel
theorem dX11_begins_175 : decode cX11_begins 175 = .ok (.aload_n 0, 1) := by decide +kernel
theorem dX11_begins_176 : decode cX11_begins 176 = .ok (.aload_n 0, 1) := by decide +kernel
theorem dX11_begins_177 : decode cX11_begins 177 = .ok (.bipush 46, 2) := by decide +kernel
theorem dX11_begins_179 : decode cX11_begins 179 = .ok (.invokevirtual 383, 3) := by decide +kernel
theorem dX11_begins_182 : decode cX11_begins 182 = .ok (.invokevirtual 359, 3) := by decide +kernel
theorem dX11_begins_185 : decode cX11_begins 185 = .ok (.aload_n 0, 1) := by decide +kernel
theorem dX11_begins_186 : decode cX11_begins 186 = .ok (.iconst 4, 1) := by decide +kernel
theorem dX11_begins_187 : decode cX11_begins 187 = .ok (.iload_n 1, 1) := by decide +kernel
theorem dX11_begins_188 : decode cX11_begins 188 = .ok (.iconst 0, 1) := by decide +kernel
theorem dX11_begins_189 : decode cX11_begins 189 = .ok (.invokevirtual 372, 3) := by decide +kernel
theorem dX11_begins_192 : decode cX11_begins 192 = .ok (.iconst 1, 1) := by decide +kernel
theorem dX11_begins_193 : decode cX11_begins 193 = .ok (.ireturn, 1) := by decide +kernel
theorem dX11_begins_194 : decode cX11_begins 194 = .ok (.iconst 0, 1) := by decide +kernel
theorem dX11_begins_195 : decode cX11_begins 195 = .ok (.ireturn, 1) := by decide +kernel
theorem mw_X11_begins : MW yX11_begins (Cond.code yX11_begins cX11_begins 2 (Option.some Jvm.ClassFile.FieldType.boolean)) cX11_begins 2 (Option.some Jvm.ClassFile.FieldType.boolean) 0 := ⟨rfl, ⟨(lw_all_tbl q3030), rfl, (lw_all_tbl q173)⟩, rfl, ⟨by decide, by decide⟩, by decide +kernel⟩
noncomputable def t_begins_67  (k0 : Int) : Mo TS Int :=
  bnd (t_accept 1) fun _ =>
  bnd (t_pile 3 k0 0) fun _ =>
  bnd (t_binding k0) fun _ =>
  pr 1
theorem st_begins_67 {Γ : Gm} {h : CH} {d : Nat} (hT : HT h) (o : Ok Γ "LazyForgeModel" cX11_begins 2 (Option.some Jvm.ClassFile.FieldType.boolean) (d + 7))   (k0 : Int) (hk0 : R32 k0) : Sx Γ (fun t => (h, t)) (fun a s => mt Γ = (0, a, ((h, s) : Wd))) 67 [(0, vA (mg Γ) 21)] [vI k0] (t_begins_67 k0) := by
  unfold t_begins_67
  refine r_istore_n o dX11_begins_67 rfl rfl ⟨(Nat.ne_of_beq_eq_false rfl), (fun _ => (vA_cat (mg Γ) 21)), trivial⟩ ?_
  refine s_aload_n o dX11_begins_68 rfl 1 rfl ?_
  refine s_iconst o dX11_begins_69 ?_
  refine s_cv (d := d + 6) (C := "LazyForgeModel") (As := [vI 1]) (st := []) o (st_accept (mg Γ) (d + 2) h hT 1 (Or.inr rfl)) mw_X11_accept rfl (Or.inl (lw_all_tbl q2979)) (lw_all_tbl qs65) (lw_all_tbl q2981) (fun t => rc_t o hT t) wt_0 rfl dX11_begins_70 rfl (rs := fun _ => []) (fun _ => rfl) (fun _ _ => ?_)
  refine s_aload_n o dX11_begins_73 rfl 1 rfl ?_
  refine s_iconst o dX11_begins_74 ?_
  refine s_iload_n o dX11_begins_75 rfl 0 rfl ?_
  refine s_iconst o dX11_begins_76 ?_
  refine s_cv (d := d + 6) (C := "LazyForgeModel") (As := [vI 3, vI k0, vI 0]) (st := []) o (st_pile (mg Γ) (d + 6) h hT 3 k0 0 (r32 rfl) hk0 (r32 rfl)) mw_X11_pile rfl (Or.inl (lw_all_tbl q3019)) (lw_all_tbl qs75) (lw_all_tbl q3021) (fun t => rc_t o hT t) wt_0 rfl dX11_begins_77 rfl (rs := fun _ => []) (fun _ => rfl) (fun _ _ => ?_)
  refine s_aload_n o dX11_begins_80 rfl 1 rfl ?_
  refine s_iload_n o dX11_begins_81 rfl 0 rfl ?_
  refine s_cv (d := d + 6) (C := "LazyForgeModel") (As := [vI k0]) (st := []) o (st_binding (mg Γ) d h hT k0 hk0) mw_X11_binding rfl (Or.inl (lw_all_tbl q3035)) (lw_all_tbl qs79) (lw_all_tbl q3037) (fun t => rc_t o hT t) wt_0 rfl dX11_begins_82 rfl (rs := fun _ => []) (fun _ => rfl) (fun _ _ => ?_)
  refine s_iconst o dX11_begins_85 ?_
  exact s_iret o rfl i_boolean (Or.inr rfl) dX11_begins_86 (fun _ hh => hh)
noncomputable def t_begins_66  : Mo TS Int :=
  t_begins_67 0
theorem st_begins_66 {Γ : Gm} {h : CH} {d : Nat} (hT : HT h) (o : Ok Γ "LazyForgeModel" cX11_begins 2 (Option.some Jvm.ClassFile.FieldType.boolean) (d + 7))   : Sx Γ (fun t => (h, t)) (fun a s => mt Γ = (0, a, ((h, s) : Wd))) 66 [(0, vA (mg Γ) 21)] [] (t_begins_66) := by
  unfold t_begins_66
  refine s_iconst o dX11_begins_66 ?_
  exact st_begins_67 hT o 0 (r32 rfl)
noncomputable def t_begins_114  (k0 : Int) : Mo TS Int :=
  bnd (t_accept 1) fun _ =>
  bnd (t_pile 5 k0 0) fun _ =>
  pr 1
theorem st_begins_114 {Γ : Gm} {h : CH} {d : Nat} (hT : HT h) (o : Ok Γ "LazyForgeModel" cX11_begins 2 (Option.some Jvm.ClassFile.FieldType.boolean) (d + 7))   (k0 : Int) (hk0 : R32 k0) : Sx Γ (fun t => (h, t)) (fun a s => mt Γ = (0, a, ((h, s) : Wd))) 114 [(0, vA (mg Γ) 21)] [vI k0] (t_begins_114 k0) := by
  unfold t_begins_114
  refine r_istore_n o dX11_begins_114 rfl rfl ⟨(Nat.ne_of_beq_eq_false rfl), (fun _ => (vA_cat (mg Γ) 21)), trivial⟩ ?_
  refine s_aload_n o dX11_begins_115 rfl 1 rfl ?_
  refine s_iconst o dX11_begins_116 ?_
  refine s_cv (d := d + 6) (C := "LazyForgeModel") (As := [vI 1]) (st := []) o (st_accept (mg Γ) (d + 2) h hT 1 (Or.inr rfl)) mw_X11_accept rfl (Or.inl (lw_all_tbl q2979)) (lw_all_tbl qs65) (lw_all_tbl q2981) (fun t => rc_t o hT t) wt_0 rfl dX11_begins_117 rfl (rs := fun _ => []) (fun _ => rfl) (fun _ _ => ?_)
  refine s_aload_n o dX11_begins_120 rfl 1 rfl ?_
  refine s_iconst o dX11_begins_121 ?_
  refine s_iload_n o dX11_begins_122 rfl 0 rfl ?_
  refine s_iconst o dX11_begins_123 ?_
  refine s_cv (d := d + 6) (C := "LazyForgeModel") (As := [vI 5, vI k0, vI 0]) (st := []) o (st_pile (mg Γ) (d + 6) h hT 5 k0 0 (r32 rfl) hk0 (r32 rfl)) mw_X11_pile rfl (Or.inl (lw_all_tbl q3019)) (lw_all_tbl qs75) (lw_all_tbl q3021) (fun t => rc_t o hT t) wt_0 rfl dX11_begins_124 rfl (rs := fun _ => []) (fun _ => rfl) (fun _ _ => ?_)
  refine s_iconst o dX11_begins_127 ?_
  exact s_iret o rfl i_boolean (Or.inr rfl) dX11_begins_128 (fun _ hh => hh)
noncomputable def t_begins_113  : Mo TS Int :=
  t_begins_114 0
theorem st_begins_113 {Γ : Gm} {h : CH} {d : Nat} (hT : HT h) (o : Ok Γ "LazyForgeModel" cX11_begins 2 (Option.some Jvm.ClassFile.FieldType.boolean) (d + 7))   : Sx Γ (fun t => (h, t)) (fun a s => mt Γ = (0, a, ((h, s) : Wd))) 113 [(0, vA (mg Γ) 21)] [] (t_begins_113) := by
  unfold t_begins_113
  refine s_iconst o dX11_begins_113 ?_
  exact st_begins_114 hT o 0 (r32 rfl)
noncomputable def t_begins_175  (l1 : Int) : Mo TS Int :=
  bnd (t_isSign 46) fun v1 =>
  bnd (t_accept v1) fun _ =>
  bnd (t_pile 4 l1 0) fun _ =>
  pr 1
theorem st_begins_175 {Γ : Gm} {h : CH} {d : Nat} (hT : HT h) (o : Ok Γ "LazyForgeModel" cX11_begins 2 (Option.some Jvm.ClassFile.FieldType.boolean) (d + 7))   (l1 : Int) (hl1 : R32 l1) : Sx Γ (fun t => (h, t)) (fun a s => mt Γ = (0, a, ((h, s) : Wd))) 175 [(0, vA (mg Γ) 21), (1, vI l1)] [] (t_begins_175 l1) := by
  unfold t_begins_175
  refine s_aload_n o dX11_begins_175 rfl 0 rfl ?_
  refine s_aload_n o dX11_begins_176 rfl 0 rfl ?_
  refine s_bipush o dX11_begins_177 rfl ?_
  refine s_cv (d := d + 6) (C := "LazyForgeModel") (As := [vI 46]) (st := [vA (mg Γ) 21]) o (st_isSign (mg Γ) (d + 6) h hT 46 (r32 rfl)) mw_X11_isSign rfl (Or.inl (lw_all_tbl q2987)) (lw_all_tbl qs67) (lw_all_tbl q2989) (fun t => rc_t o hT t) (wt_A wt_0) rfl dX11_begins_179 rfl (rs := fun r => [vI r, vA (mg Γ) 21]) (fun _ => rfl) (fun v1 hv1 => ?_)
  refine s_cv (d := d + 6) (C := "LazyForgeModel") (As := [vI v1]) (st := []) o (st_accept (mg Γ) (d + 2) h hT v1 (hv1 _ rfl)) mw_X11_accept rfl (Or.inl (lw_all_tbl q2979)) (lw_all_tbl qs65) (lw_all_tbl q2981) (fun t => rc_t o hT t) wt_0 rfl dX11_begins_182 rfl (rs := fun _ => []) (fun _ => rfl) (fun _ _ => ?_)
  refine s_aload_n o dX11_begins_185 rfl 0 rfl ?_
  refine s_iconst o dX11_begins_186 ?_
  refine s_iload_n o dX11_begins_187 rfl 1 rfl ?_
  refine s_iconst o dX11_begins_188 ?_
  refine s_cv (d := d + 6) (C := "LazyForgeModel") (As := [vI 4, vI l1, vI 0]) (st := []) o (st_pile (mg Γ) (d + 6) h hT 4 l1 0 (r32 rfl) hl1 (r32 rfl)) mw_X11_pile rfl (Or.inl (lw_all_tbl q3019)) (lw_all_tbl qs75) (lw_all_tbl q3021) (fun t => rc_t o hT t) wt_0 rfl dX11_begins_189 rfl (rs := fun _ => []) (fun _ => rfl) (fun _ _ => ?_)
  refine s_iconst o dX11_begins_192 ?_
  exact s_iret o rfl i_boolean (Or.inr rfl) dX11_begins_193 (fun _ hh => hh)
noncomputable def t_begins_156  (k0 : Int) : Mo TS Int :=
  bnd (t_accept 1) fun _ =>
  bnd (gs 10) fun v1 =>
  if ¬ v1 = 0 then
    t_begins_175 k0
  else
    bnd (t_parameters k0 1) fun _ =>
    t_begins_175 k0
theorem st_begins_156 {Γ : Gm} {h : CH} {d : Nat} (hT : HT h) (o : Ok Γ "LazyForgeModel" cX11_begins 2 (Option.some Jvm.ClassFile.FieldType.boolean) (d + 7))   (k0 : Int) (hk0 : R32 k0) : Sx Γ (fun t => (h, t)) (fun a s => mt Γ = (0, a, ((h, s) : Wd))) 156 [(0, vA (mg Γ) 21)] [vI k0] (t_begins_156 k0) := by
  unfold t_begins_156
  refine r_istore_n o dX11_begins_156 rfl rfl ⟨(Nat.ne_of_beq_eq_false rfl), (fun _ => (vA_cat (mg Γ) 21)), trivial⟩ ?_
  refine s_aload_n o dX11_begins_157 rfl 1 rfl ?_
  refine s_iconst o dX11_begins_158 ?_
  refine s_cv (d := d + 6) (C := "LazyForgeModel") (As := [vI 1]) (st := []) o (st_accept (mg Γ) (d + 2) h hT 1 (Or.inr rfl)) mw_X11_accept rfl (Or.inl (lw_all_tbl q2979)) (lw_all_tbl qs65) (lw_all_tbl q2981) (fun t => rc_t o hT t) wt_0 rfl dX11_begins_159 rfl (rs := fun _ => []) (fun _ => rfl) (fun _ _ => ?_)
  refine s_aload_n o dX11_begins_162 rfl 1 rfl ?_
  refine r_tgf vI rfl o hT tf_fault tj_fault (lw_all_tbl q2514) dX11_begins_163 (fun v1 hv1 => ?_)
  refine s_if_ne (tgt := 175) o dX11_begins_166 (by decide) hv1 ?_ ?_
  · refine r_to [(0, vA (mg Γ) 21), (1, vI k0)] [1, 0] rfl ?_
    exact st_begins_175 hT o k0 hk0
  · refine s_aload_n o dX11_begins_169 rfl 1 rfl ?_
    refine s_iload_n o dX11_begins_170 rfl 0 rfl ?_
    refine s_iconst o dX11_begins_171 ?_
    refine s_cv (d := d + 6) (C := "LazyForgeModel") (As := [vI k0, vI 1]) (st := []) o (st_parameters (mg Γ) (d + 1) h hT k0 1 hk0 (r32 rfl)) mw_X11_parameters rfl (Or.inl (lw_all_tbl q2999)) (lw_all_tbl qs70) (lw_all_tbl q3001) (fun t => rc_t o hT t) wt_0 rfl dX11_begins_172 rfl (rs := fun _ => []) (fun _ => rfl) (fun _ _ => ?_)
    refine r_to [(0, vA (mg Γ) 21), (1, vI k0)] [1, 0] rfl ?_
    exact st_begins_175 hT o k0 hk0
noncomputable def t_begins_155  : Mo TS Int :=
  t_begins_156 0
theorem st_begins_155 {Γ : Gm} {h : CH} {d : Nat} (hT : HT h) (o : Ok Γ "LazyForgeModel" cX11_begins 2 (Option.some Jvm.ClassFile.FieldType.boolean) (d + 7))   : Sx Γ (fun t => (h, t)) (fun a s => mt Γ = (0, a, ((h, s) : Wd))) 155 [(0, vA (mg Γ) 21)] [] (t_begins_155) := by
  unfold t_begins_155
  refine s_iconst o dX11_begins_155 ?_
  exact st_begins_156 hT o 0 (r32 rfl)
noncomputable def t_begins : Mo TS Int :=
  bnd (gs 6) fun v1 =>
  if v1 = 11 then
    bnd (t_opens) fun _ =>
    bnd (gs 10) fun v3 =>
    if ¬ v3 = 0 then
      t_begins_66
    else
      bnd (t_part) fun v4 =>
      if v4 = 0 then
        t_begins_66
      else
        bnd (t_node 0) fun v5 =>
        t_begins_67 v5
  else
    if v1 = 13 then
      bnd (t_opens) fun _ =>
      bnd (gs 10) fun v7 =>
      if ¬ v7 = 0 then
        t_begins_113
      else
        bnd (t_part) fun v8 =>
        if v8 = 0 then
          t_begins_113
        else
          bnd (t_node 3) fun v9 =>
          t_begins_114 v9
    else
      if v1 = 192 then
        bnd (t_opens) fun _ =>
        bnd (gs 10) fun v11 =>
        if ¬ v11 = 0 then
          t_begins_155
        else
          bnd (t_part) fun v12 =>
          if v12 = 0 then
            t_begins_155
          else
            bnd (t_node 2) fun v13 =>
            t_begins_156 v13
      else
        pr 0
theorem st_begins (g : gC) (d : Nat) (h : CH) (hT : HT h) : SF g yX11_begins (Cond.code yX11_begins cX11_begins 2 (Option.some Jvm.ClassFile.FieldType.boolean)) (Option.some Jvm.ClassFile.FieldType.boolean) (d + 7) [vA g 21] (fun t => (h, t)) (t_begins) := by
  refine SF.of (lv := [(0, vA g 21)]) (by decide) (wt_A wt_0) rfl (by simp only [la_A, la_I, la_J, la_0]) (fun Γ hg hnm o => ?_)
  subst hg
  have o : Ok Γ "LazyForgeModel" cX11_begins 2 (Option.some Jvm.ClassFile.FieldType.boolean) (d + 7) := o
  unfold t_begins
  refine s_aload_n o dX11_begins_0 rfl 0 rfl ?_
  refine r_tgf vI rfl o hT tf_word tj_word (lw_all_tbl q2510) dX11_begins_1 (fun v1 hv1 => ?_)
  refine s_case (P := True) (fun e1 => ?_) (fun e1 => ?_)
  · refine s_lookE o e1 dX11_begins_4 (r32 rfl) rfl rfl (tgt := 40) (by decide) ?_
    refine s_aload_n o dX11_begins_40 rfl 0 rfl ?_
    refine s_cv (d := d + 6) (C := "LazyForgeModel") (As := []) (st := []) o (st_opens (mg Γ) (d + 4) h hT) mw_X11_opens rfl (Or.inl (lw_all_tbl q3031)) (lw_all_tbl qs78) (lw_all_tbl q3033) (fun t => rc_t o hT t) wt_0 rfl dX11_begins_41 rfl (rs := fun _ => []) (fun _ => rfl) (fun _ _ => ?_)
    refine s_aload_n o dX11_begins_44 rfl 0 rfl ?_
    refine r_tgf vI rfl o hT tf_fault tj_fault (lw_all_tbl q2514) dX11_begins_45 (fun v3 hv3 => ?_)
    refine s_if_ne (tgt := 66) o dX11_begins_48 (by decide) hv3 ?_ ?_
    · exact st_begins_66 hT o
    · refine s_aload_n o dX11_begins_51 rfl 0 rfl ?_
      refine s_cv (d := d + 6) (C := "LazyForgeModel") (As := []) (st := []) o (st_part (mg Γ) (d + 5) h hT) mw_X11_part rfl (Or.inl (lw_all_tbl q3007)) (lw_all_tbl qs72) (lw_all_tbl q3009) (fun t => rc_t o hT t) wt_0 rfl dX11_begins_52 rfl (rs := fun r => [vI r]) (fun _ => rfl) (fun v4 hv4 => ?_)
      refine s_if_eq (tgt := 66) o dX11_begins_55 (by decide) (rZ (hv4 _ rfl)) ?_ ?_
      · exact st_begins_66 hT o
      · refine s_aload_n o dX11_begins_58 rfl 0 rfl ?_
        refine s_iconst o dX11_begins_59 ?_
        refine s_cv (d := d + 6) (C := "LazyForgeModel") (As := [vI 0]) (st := []) o (st_node (mg Γ) (d + 6) h hT 0 (r32 rfl)) mw_X11_node rfl (Or.inl (lw_all_tbl q2995)) (lw_all_tbl qs69) (lw_all_tbl q2997) (fun t => rc_t o hT t) wt_0 rfl dX11_begins_60 rfl (rs := fun r => [vI r]) (fun _ => rfl) (fun v5 hv5 => ?_)
        refine s_goto (tgt := 67) o dX11_begins_63 (by decide) ?_
        exact st_begins_67 hT o v5 (hv5 _ rfl)
  · refine s_case (P := True) (fun e5 => ?_) (fun e5 => ?_)
    · refine s_lookE o e5 dX11_begins_4 (r32 rfl) rfl rfl (tgt := 87) (by decide) ?_
      refine s_aload_n o dX11_begins_87 rfl 0 rfl ?_
      refine s_cv (d := d + 6) (C := "LazyForgeModel") (As := []) (st := []) o (st_opens (mg Γ) (d + 4) h hT) mw_X11_opens rfl (Or.inl (lw_all_tbl q3031)) (lw_all_tbl qs78) (lw_all_tbl q3033) (fun t => rc_t o hT t) wt_0 rfl dX11_begins_88 rfl (rs := fun _ => []) (fun _ => rfl) (fun _ _ => ?_)
      refine s_aload_n o dX11_begins_91 rfl 0 rfl ?_
      refine r_tgf vI rfl o hT tf_fault tj_fault (lw_all_tbl q2514) dX11_begins_92 (fun v7 hv7 => ?_)
      refine s_if_ne (tgt := 113) o dX11_begins_95 (by decide) hv7 ?_ ?_
      · exact st_begins_113 hT o
      · refine s_aload_n o dX11_begins_98 rfl 0 rfl ?_
        refine s_cv (d := d + 6) (C := "LazyForgeModel") (As := []) (st := []) o (st_part (mg Γ) (d + 5) h hT) mw_X11_part rfl (Or.inl (lw_all_tbl q3007)) (lw_all_tbl qs72) (lw_all_tbl q3009) (fun t => rc_t o hT t) wt_0 rfl dX11_begins_99 rfl (rs := fun r => [vI r]) (fun _ => rfl) (fun v8 hv8 => ?_)
        refine s_if_eq (tgt := 113) o dX11_begins_102 (by decide) (rZ (hv8 _ rfl)) ?_ ?_
        · exact st_begins_113 hT o
        · refine s_aload_n o dX11_begins_105 rfl 0 rfl ?_
          refine s_iconst o dX11_begins_106 ?_
          refine s_cv (d := d + 6) (C := "LazyForgeModel") (As := [vI 3]) (st := []) o (st_node (mg Γ) (d + 6) h hT 3 (r32 rfl)) mw_X11_node rfl (Or.inl (lw_all_tbl q2995)) (lw_all_tbl qs69) (lw_all_tbl q2997) (fun t => rc_t o hT t) wt_0 rfl dX11_begins_107 rfl (rs := fun r => [vI r]) (fun _ => rfl) (fun v9 hv9 => ?_)
          refine s_goto (tgt := 114) o dX11_begins_110 (by decide) ?_
          exact st_begins_114 hT o v9 (hv9 _ rfl)
    · refine s_case (P := True) (fun e9 => ?_) (fun e9 => ?_)
      · refine s_lookE o e9 dX11_begins_4 (r32 rfl) rfl rfl (tgt := 129) (by decide) ?_
        refine s_aload_n o dX11_begins_129 rfl 0 rfl ?_
        refine s_cv (d := d + 6) (C := "LazyForgeModel") (As := []) (st := []) o (st_opens (mg Γ) (d + 4) h hT) mw_X11_opens rfl (Or.inl (lw_all_tbl q3031)) (lw_all_tbl qs78) (lw_all_tbl q3033) (fun t => rc_t o hT t) wt_0 rfl dX11_begins_130 rfl (rs := fun _ => []) (fun _ => rfl) (fun _ _ => ?_)
        refine s_aload_n o dX11_begins_133 rfl 0 rfl ?_
        refine r_tgf vI rfl o hT tf_fault tj_fault (lw_all_tbl q2514) dX11_begins_134 (fun v11 hv11 => ?_)
        refine s_if_ne (tgt := 155) o dX11_begins_137 (by decide) hv11 ?_ ?_
        · exact st_begins_155 hT o
        · refine s_aload_n o dX11_begins_140 rfl 0 rfl ?_
          refine s_cv (d := d + 6) (C := "LazyForgeModel") (As := []) (st := []) o (st_part (mg Γ) (d + 5) h hT) mw_X11_part rfl (Or.inl (lw_all_tbl q3007)) (lw_all_tbl qs72) (lw_all_tbl q3009) (fun t => rc_t o hT t) wt_0 rfl dX11_begins_141 rfl (rs := fun r => [vI r]) (fun _ => rfl) (fun v12 hv12 => ?_)
          refine s_if_eq (tgt := 155) o dX11_begins_144 (by decide) (rZ (hv12 _ rfl)) ?_ ?_
          · exact st_begins_155 hT o
          · refine s_aload_n o dX11_begins_147 rfl 0 rfl ?_
            refine s_iconst o dX11_begins_148 ?_
            refine s_cv (d := d + 6) (C := "LazyForgeModel") (As := [vI 2]) (st := []) o (st_node (mg Γ) (d + 6) h hT 2 (r32 rfl)) mw_X11_node rfl (Or.inl (lw_all_tbl q2995)) (lw_all_tbl qs69) (lw_all_tbl q2997) (fun t => rc_t o hT t) wt_0 rfl dX11_begins_149 rfl (rs := fun r => [vI r]) (fun _ => rfl) (fun v13 hv13 => ?_)
            refine s_goto (tgt := 156) o dX11_begins_152 (by decide) ?_
            exact st_begins_156 hT o v13 (hv13 _ rfl)
      · refine s_look (off := 190) o dX11_begins_4 hv1 rfl (by simp [Op.lookupswitch.offset, Ne.symm e1, Ne.symm e5, Ne.symm e9, e1, e5, e9]) (tgt := 194) (by decide) ?_
        refine s_iconst o dX11_begins_194 ?_
        exact s_iret o rfl i_boolean (Or.inl rfl) dX11_begins_195 (fun _ hh => hh)
theorem dX11_application_0 : decode cX11_application 0 = .ok (.aload_n 0, 1) := by decide +kernel
theorem dX11_application_1 : decode cX11_application 1 = .ok (.iconst 0, 1) := by decide +kernel
theorem dX11_application_2 : decode cX11_application 2 = .ok (.putfield 405, 3) := by decide +kernel
theorem dX11_application_5 : decode cX11_application 5 = .ok (.aload_n 0, 1) := by decide +kernel
theorem dX11_application_6 : decode cX11_application 6 = .ok (.getfield 286, 3) := by decide +kernel
theorem dX11_application_9 : decode cX11_application 9 = .ok (.iconst 4, 1) := by decide +kernel
theorem dX11_application_10 : decode cX11_application 10 = .ok (.if_icmp .ne 14, 3) := by decide +kernel
theorem dX11_application_13 : decode cX11_application 13 = .ok (.aload_n 0, 1) := by decide +kernel
theorem dX11_application_14 : decode cX11_application 14 = .ok (.aload_n 0, 1) := by decide +kernel
theorem dX11_application_15 : decode cX11_application 15 = .ok (.getfield 278, 3) := by decide +kernel
theorem dX11_application_18 : decode cX11_application 18 = .ok (.invokevirtual 396, 3) := by decide +kernel
theorem dX11_application_21 : decode cX11_application 21 = .ok (.goto 4, 3) := by decide +kernel
theorem dX11_application_24 : decode cX11_application 24 = .ok (.iconst (-1), 1) := by decide +kernel
theorem dX11_application_25 : decode cX11_application 25 = .ok (.istore_n 1, 1) := by decide +kernel
theorem dX11_application_26 : decode cX11_application 26 = .ok (.iload_n 1, 1) := by decide +kernel
theorem dX11_application_27 : decode cX11_application 27 = .ok (.ifCond .lt 49, 3) := by decide +kernel
theorem dX11_application_30 : decode cX11_application 30 = .ok (.aload_n 0, 1) := by decide +kernel
theorem dX11_application_31 : decode cX11_application 31 = .ok (.getfield 62, 3) := by decide +kernel
theorem dX11_application_34 : decode cX11_application 34 = .ok (.iload_n 1, 1) := by decide +kernel
theorem dX11_application_35 : decode cX11_application 35 = .ok (.iaload, 1) := by decide +kernel
theorem dX11_application_36 : decode cX11_application 36 = .ok (.ifCond .le 40, 3) := by decide +kernel
theorem dX11_application_39 : decode cX11_application 39 = .ok (.aload_n 0, 1) := by decide +kernel
theorem dX11_application_40 : decode cX11_application 40 = .ok (.bipush 7, 2) := by decide +kernel
theorem dX11_application_42 : decode cX11_application 42 = .ok (.invokevirtual 369, 3) := by decide +kernel
theorem dX11_application_45 : decode cX11_application 45 = .ok (.istore_n 2, 1) := by decide +kernel
theorem dX11_application_46 : decode cX11_application 46 = .ok (.aload_n 0, 1) := by decide +kernel
theorem dX11_application_47 : decode cX11_application 47 = .ok (.getfield 31, 3) := by decide +kernel
theorem dX11_application_50 : decode cX11_application 50 = .ok (.iload_n 2, 1) := by decide +kernel
theorem dX11_application_51 : decode cX11_application 51 = .ok (.iload_n 1, 1) := by decide +kernel
theorem dX11_application_52 : decode cX11_application 52 = .ok (.iastore, 1) := by decide +kernel
theorem dX11_application_53 : decode cX11_application 53 = .ok (.aload_n 0, 1) := by decide +kernel
theorem dX11_application_54 : decode cX11_application 54 = .ok (.invokevirtual 321, 3) := by decide +kernel
theorem dX11_application_57 : decode cX11_application 57 = .ok (.aload_n 0, 1) := by decide +kernel
theorem dX11_application_58 : decode cX11_application 58 = .ok (.bipush 9, 2) := by decide +kernel
theorem dX11_application_60 : decode cX11_application 60 = .ok (.iload_n 2, 1) := by decide +kernel
theorem dX11_application_61 : decode cX11_application 61 = .ok (.iconst 0, 1) := by decide +kernel
theorem dX11_application_62 : decode cX11_application 62 = .ok (.invokevirtual 372, 3) := by decide +kernel
theorem dX11_application_65 : decode cX11_application 65 = .ok (.aload_n 0, 1) := by decide +kernel
theorem dX11_application_66 : decode cX11_application 66 = .ok (.aload_n 0, 1) := by decide +kernel
theorem dX11_application_67 : decode cX11_application 67 = .ok (.getfield 342, 3) := by decide +kernel
theorem dX11_application_70 : decode cX11_application 70 = .ok (.iconst 1, 1) := by decide +kernel
theorem dX11_application_71 : decode cX11_application 71 = .ok (.isub, 1) := by decide +kernel
theorem dX11_application_72 : decode cX11_application 72 = .ok (.invokevirtual 408, 3) := by decide +kernel
theorem dX11_application_75 : decode cX11_application 75 = .ok (.ireturn, 1) := by decide +kernel
theorem dX11_application_76 : decode cX11_application 76 = .ok (.aload_n 0, 1) := by decide +kernel
theorem dX11_application_77 : decode cX11_application 77 = .ok (.bipush 8, 2) := by decide +kernel
theorem dX11_application_79 : decode cX11_application 79 = .ok (.iconst (-1), 1) := by decide +kernel
theorem dX11_application_80 : decode cX11_application 80 = .ok (.iconst 0, 1) := by decide +kernel
theorem dX11_application_81 : decode cX11_application 81 = .ok (.invokevirtual 372, 3) := by decide +kernel
theorem dX11_application_84 : decode cX11_application 84 = .ok (.aload_n 0, 1) := by decide +kernel
theorem dX11_application_85 : decode cX11_application 85 = .ok (.invokevirtual 411, 3) := by decide +kernel
theorem dX11_application_88 : decode cX11_application 88 = .ok (.ireturn, 1) := by decide +kernel
theorem mw_X11_application : MW yX11_application (Cond.code yX11_application cX11_application 3 (Option.some Jvm.ClassFile.FieldType.boolean)) cX11_application 3 (Option.some Jvm.ClassFile.FieldType.boolean) 0 := ⟨rfl, ⟨(lw_all_tbl q3046), rfl, (lw_all_tbl q173)⟩, rfl, ⟨by decide, by decide⟩, by decide +kernel⟩
noncomputable def t_application_76  : Mo TS Int :=
  bnd (t_pile 8 (-1) 0) fun _ =>
  bnd (t_atom) fun v1 =>
  pr v1
theorem st_application_76 {Γ : Gm} {h : CH} {d : Nat} (hT : HT h) (o : Ok Γ "LazyForgeModel" cX11_application 3 (Option.some Jvm.ClassFile.FieldType.boolean) (d + 7))   : Sx Γ (fun t => (h, t)) (fun a s => mt Γ = (0, a, ((h, s) : Wd))) 76 [(0, vA (mg Γ) 21)] [] (t_application_76) := by
  unfold t_application_76
  refine s_aload_n o dX11_application_76 rfl 0 rfl ?_
  refine s_bipush o dX11_application_77 rfl ?_
  refine s_iconst o dX11_application_79 ?_
  refine s_iconst o dX11_application_80 ?_
  refine s_cv (d := d + 6) (C := "LazyForgeModel") (As := [vI 8, vI (-1), vI 0]) (st := []) o (st_pile (mg Γ) (d + 6) h hT 8 (-1) 0 (r32 rfl) (r32 rfl) (r32 rfl)) mw_X11_pile rfl (Or.inl (lw_all_tbl q3019)) (lw_all_tbl qs75) (lw_all_tbl q3021) (fun t => rc_t o hT t) wt_0 rfl dX11_application_81 rfl (rs := fun _ => []) (fun _ => rfl) (fun _ _ => ?_)
  refine s_aload_n o dX11_application_84 rfl 0 rfl ?_
  refine s_cv (d := d + 6) (C := "LazyForgeModel") (As := []) (st := []) o (st_atom (mg Γ) (d + 1) h hT) mw_X11_atom rfl (Or.inl (lw_all_tbl q3063)) (lw_all_tbl qs86) (lw_all_tbl q3065) (fun t => rc_t o hT t) wt_0 rfl dX11_application_85 rfl (rs := fun r => [vI r]) (fun _ => rfl) (fun v1 hv1 => ?_)
  exact s_iret o rfl i_boolean (hv1 _ rfl) dX11_application_88 (fun _ hh => hh)
noncomputable def t_application_25  (k0 : Int) : Mo TS Int :=
  if k0 < 0 then
    t_application_76
  else
    bnd (rd 33 30 k0) fun v1 =>
    if v1 ≤ 0 then
      t_application_76
    else
      bnd (t_node 7) fun v2 =>
      bnd (wr 18 3200 v2 k0) fun _ =>
      bnd (t_next) fun _ =>
      bnd (t_pile 9 v2 0) fun _ =>
      bnd (gs 35) fun v3 =>
      bnd (t_field (w32 (v3 - 1))) fun v4 =>
      pr v4
theorem st_application_25 {Γ : Gm} {h : CH} {d : Nat} (hT : HT h) (o : Ok Γ "LazyForgeModel" cX11_application 3 (Option.some Jvm.ClassFile.FieldType.boolean) (d + 7))   (k0 : Int) (hk0 : R32 k0) : Sx Γ (fun t => (h, t)) (fun a s => mt Γ = (0, a, ((h, s) : Wd))) 25 [(0, vA (mg Γ) 21)] [vI k0] (t_application_25 k0) := by
  unfold t_application_25
  refine r_istore_n o dX11_application_25 rfl rfl ⟨(Nat.ne_of_beq_eq_false rfl), (fun _ => (vA_cat (mg Γ) 21)), trivial⟩ ?_
  refine s_iload_n o dX11_application_26 rfl 0 rfl ?_
  refine s_if_lt (tgt := 76) o dX11_application_27 (by decide) hk0 ?_ ?_
  · refine r_to [(0, vA (mg Γ) 21)] [1] rfl ?_
    exact st_application_76 hT o
  · refine s_aload_n o dX11_application_30 rfl 1 rfl ?_
    refine s_tga (x := 39) o hT tf_fieldCounts ta_fieldCounts (lw_all_tbl q2537) dX11_application_31 ?_
    refine s_iload_n o dX11_application_34 rfl 0 rfl ?_
    refine r_tiald o hT tr_fieldCounts hk0 dX11_application_35 (fun v1 hv1 => ?_)
    refine s_if_le (tgt := 76) o dX11_application_36 (by decide) hv1 ?_ ?_
    · refine r_to [(0, vA (mg Γ) 21)] [1] rfl ?_
      exact st_application_76 hT o
    · refine s_aload_n o dX11_application_39 rfl 1 rfl ?_
      refine s_bipush o dX11_application_40 rfl ?_
      refine s_cv (d := d + 6) (C := "LazyForgeModel") (As := [vI 7]) (st := []) o (st_node (mg Γ) (d + 6) h hT 7 (r32 rfl)) mw_X11_node rfl (Or.inl (lw_all_tbl q2995)) (lw_all_tbl qs69) (lw_all_tbl q2997) (fun t => rc_t o hT t) wt_0 rfl dX11_application_42 rfl (rs := fun r => [vI r]) (fun _ => rfl) (fun v2 hv2 => ?_)
      refine r_istore_n o dX11_application_45 rfl rfl ⟨(Nat.ne_of_beq_eq_false rfl), (fun _ => rfl), ⟨(Nat.ne_of_beq_eq_false rfl), (fun _ => (vA_cat (mg Γ) 21)), trivial⟩⟩ ?_
      refine s_aload_n o dX11_application_46 rfl 2 rfl ?_
      refine s_tga (x := 29) o hT tf_values ta_values (lw_all_tbl q2522) dX11_application_47 ?_
      refine s_iload_n o dX11_application_50 rfl 0 rfl ?_
      refine s_iload_n o dX11_application_51 rfl 1 rfl ?_
      refine r_tiast o hT tr_values (hv2 _ rfl) hk0 dX11_application_52 ?_
      refine s_aload_n o dX11_application_53 rfl 2 rfl ?_
      refine s_cv (d := d + 6) (C := "LazyForgeModel") (As := []) (st := []) o (st_next (mg Γ) (d + 3) h hT) mw_X11_next rfl (Or.inl (lw_all_tbl q2932)) (lw_all_tbl qs57) (lw_all_tbl q2934) (fun t => rc_t o hT t) wt_0 rfl dX11_application_54 rfl (rs := fun _ => []) (fun _ => rfl) (fun _ _ => ?_)
      refine s_aload_n o dX11_application_57 rfl 2 rfl ?_
      refine s_bipush o dX11_application_58 rfl ?_
      refine s_iload_n o dX11_application_60 rfl 0 rfl ?_
      refine s_iconst o dX11_application_61 ?_
      refine s_cv (d := d + 6) (C := "LazyForgeModel") (As := [vI 9, vI v2, vI 0]) (st := []) o (st_pile (mg Γ) (d + 6) h hT 9 v2 0 (r32 rfl) (hv2 _ rfl) (r32 rfl)) mw_X11_pile rfl (Or.inl (lw_all_tbl q3019)) (lw_all_tbl qs75) (lw_all_tbl q3021) (fun t => rc_t o hT t) wt_0 rfl dX11_application_62 rfl (rs := fun _ => []) (fun _ => rfl) (fun _ _ => ?_)
      refine s_aload_n o dX11_application_65 rfl 2 rfl ?_
      refine s_aload_n o dX11_application_66 rfl 2 rfl ?_
      refine r_tgf vI rfl o hT tf_piled tj_piled (lw_all_tbl q2539) dX11_application_67 (fun v3 hv3 => ?_)
      refine s_iconst o dX11_application_70 ?_
      refine s_isub o dX11_application_71 ?_
      refine s_cv (d := d + 6) (C := "LazyForgeModel") (As := [vI (w32 (v3 - 1))]) (st := []) o (st_field (mg Γ) d h hT (w32 (v3 - 1)) (w32_R _)) mw_X11_field rfl (Or.inl (lw_all_tbl q3047)) (lw_all_tbl qs82) (lw_all_tbl q3049) (fun t => rc_t o hT t) wt_0 rfl dX11_application_72 rfl (rs := fun r => [vI r]) (fun _ => rfl) (fun v4 hv4 => ?_)
      exact s_iret o rfl i_boolean (hv4 _ rfl) dX11_application_75 (fun _ hh => hh)
noncomputable def t_application : Mo TS Int :=
  bnd (ss 45 0) fun _ =>
  bnd (gs 6) fun v1 =>
  if ¬ v1 = 4 then
    t_application_25 (-1)
  else
    bnd (gs 8) fun v2 =>
    bnd (t_findConstructor v2) fun v3 =>
    t_application_25 v3
theorem st_application (g : gC) (d : Nat) (h : CH) (hT : HT h) : SF g yX11_application (Cond.code yX11_application cX11_application 3 (Option.some Jvm.ClassFile.FieldType.boolean)) (Option.some Jvm.ClassFile.FieldType.boolean) (d + 7) [vA g 21] (fun t => (h, t)) (t_application) := by
  refine SF.of (lv := [(0, vA g 21)]) (by decide) (wt_A wt_0) rfl (by simp only [la_A, la_I, la_J, la_0]) (fun Γ hg hnm o => ?_)
  subst hg
  have o : Ok Γ "LazyForgeModel" cX11_application 3 (Option.some Jvm.ClassFile.FieldType.boolean) (d + 7) := o
  unfold t_application
  refine s_aload_n o dX11_application_0 rfl 0 rfl ?_
  refine s_iconst o dX11_application_1 ?_
  refine r_tpf vI rfl o hT tf_isEnded tj_isEnded (lw_all_tbl q2549) dX11_application_2 (Or.inl rfl) ty_boolean ?_
  refine s_aload_n o dX11_application_5 rfl 0 rfl ?_
  refine r_tgf vI rfl o hT tf_word tj_word (lw_all_tbl q2510) dX11_application_6 (fun v1 hv1 => ?_)
  refine s_iconst o dX11_application_9 ?_
  refine s_icmp_ne (tgt := 24) o dX11_application_10 (by decide) hv1 (r32 rfl) ?_ ?_
  · refine s_iconst o dX11_application_24 ?_
    exact st_application_25 hT o (-1) (r32 rfl)
  · refine s_aload_n o dX11_application_13 rfl 0 rfl ?_
    refine s_aload_n o dX11_application_14 rfl 0 rfl ?_
    refine r_tgf vJ rfl o hT tf_wordName tj_wordName (lw_all_tbl q2512) dX11_application_15 (fun v2 hv2 => ?_)
    refine s_cv (d := d + 6) (C := "LazyForgeModel") (As := [vJ v2]) (st := []) o (st_findConstructor (mg Γ) (d + 6) h hT v2 hv2) mw_X11_findConstructor rfl (Or.inl (lw_all_tbl q2971)) (lw_all_tbl qs63) (lw_all_tbl q2973) (fun t => rc_t o hT t) wt_0 rfl dX11_application_18 rfl (rs := fun r => [vI r]) (fun _ => rfl) (fun v3 hv3 => ?_)
    refine s_goto (tgt := 25) o dX11_application_21 (by decide) ?_
    exact st_application_25 hT o v3 (hv3 _ rfl)
theorem dX11_atomEnds_0 : decode cX11_atomEnds 0 = .ok (.aload_n 0, 1) := by decide +kernel
theorem dX11_atomEnds_1 : decode cX11_atomEnds 1 = .ok (.getfield 342, 3) := by decide +kernel
theorem dX11_atomEnds_4 : decode cX11_atomEnds 4 = .ok (.iconst 1, 1) := by decide +kernel
theorem dX11_atomEnds_5 : decode cX11_atomEnds 5 = .ok (.isub, 1) := by decide +kernel
theorem dX11_atomEnds_6 : decode cX11_atomEnds 6 = .ok (.istore_n 1, 1) := by decide +kernel
theorem dX11_atomEnds_7 : decode cX11_atomEnds 7 = .ok (.aload_n 0, 1) := by decide +kernel
theorem dX11_atomEnds_8 : decode cX11_atomEnds 8 = .ok (.getfield 68, 3) := by decide +kernel
theorem dX11_atomEnds_11 : decode cX11_atomEnds 11 = .ok (.iload_n 1, 1) := by decide +kernel
theorem dX11_atomEnds_12 : decode cX11_atomEnds 12 = .ok (.iaload, 1) := by decide +kernel
theorem dX11_atomEnds_13 : decode cX11_atomEnds 13 = .ok (.istore_n 2, 1) := by decide +kernel
theorem dX11_atomEnds_14 : decode cX11_atomEnds 14 = .ok (.aload_n 0, 1) := by decide +kernel
theorem dX11_atomEnds_15 : decode cX11_atomEnds 15 = .ok (.getfield 74, 3) := by decide +kernel
theorem dX11_atomEnds_18 : decode cX11_atomEnds 18 = .ok (.iload_n 1, 1) := by decide +kernel
theorem dX11_atomEnds_19 : decode cX11_atomEnds 19 = .ok (.dup2, 1) := by decide +kernel
theorem dX11_atomEnds_20 : decode cX11_atomEnds 20 = .ok (.iaload, 1) := by decide +kernel
theorem dX11_atomEnds_21 : decode cX11_atomEnds 21 = .ok (.iconst 1, 1) := by decide +kernel
theorem dX11_atomEnds_22 : decode cX11_atomEnds 22 = .ok (.iadd, 1) := by decide +kernel
theorem dX11_atomEnds_23 : decode cX11_atomEnds 23 = .ok (.iastore, 1) := by decide +kernel
theorem dX11_atomEnds_24 : decode cX11_atomEnds 24 = .ok (.aload_n 0, 1) := by decide +kernel
theorem dX11_atomEnds_25 : decode cX11_atomEnds 25 = .ok (.getfield 74, 3) := by decide +kernel
theorem dX11_atomEnds_28 : decode cX11_atomEnds 28 = .ok (.iload_n 1, 1) := by decide +kernel
theorem dX11_atomEnds_29 : decode cX11_atomEnds 29 = .ok (.iaload, 1) := by decide +kernel
theorem dX11_atomEnds_30 : decode cX11_atomEnds 30 = .ok (.istore_n 3, 1) := by decide +kernel
theorem dX11_atomEnds_31 : decode cX11_atomEnds 31 = .ok (.aload_n 0, 1) := by decide +kernel
theorem dX11_atomEnds_32 : decode cX11_atomEnds 32 = .ok (.getfield 65, 3) := by decide +kernel
theorem dX11_atomEnds_35 : decode cX11_atomEnds 35 = .ok (.iload_n 1, 1) := by decide +kernel
theorem dX11_atomEnds_36 : decode cX11_atomEnds 36 = .ok (.iaload, 1) := by decide +kernel
theorem dX11_atomEnds_37 : decode cX11_atomEnds 37 = .ok (.bipush 9, 2) := by decide +kernel
theorem dX11_atomEnds_39 : decode cX11_atomEnds 39 = .ok (.if_icmp .ne 87, 3) := by decide +kernel
theorem dX11_atomEnds_42 : decode cX11_atomEnds 42 = .ok (.aload_n 0, 1) := by decide +kernel
theorem dX11_atomEnds_43 : decode cX11_atomEnds 43 = .ok (.iload_n 2, 1) := by decide +kernel
theorem dX11_atomEnds_44 : decode cX11_atomEnds 44 = .ok (.aload_n 0, 1) := by decide +kernel
theorem dX11_atomEnds_45 : decode cX11_atomEnds 45 = .ok (.invokevirtual 420, 3) := by decide +kernel
theorem dX11_atomEnds_48 : decode cX11_atomEnds 48 = .ok (.invokevirtual 386, 3) := by decide +kernel
theorem dX11_atomEnds_51 : decode cX11_atomEnds 51 = .ok (.iload_n 3, 1) := by decide +kernel
theorem dX11_atomEnds_52 : decode cX11_atomEnds 52 = .ok (.aload_n 0, 1) := by decide +kernel
theorem dX11_atomEnds_53 : decode cX11_atomEnds 53 = .ok (.getfield 62, 3) := by decide +kernel
theorem dX11_atomEnds_56 : decode cX11_atomEnds 56 = .ok (.aload_n 0, 1) := by decide +kernel
theorem dX11_atomEnds_57 : decode cX11_atomEnds 57 = .ok (.getfield 31, 3) := by decide +kernel
theorem dX11_atomEnds_60 : decode cX11_atomEnds 60 = .ok (.iload_n 2, 1) := by decide +kernel
theorem dX11_atomEnds_61 : decode cX11_atomEnds 61 = .ok (.iaload, 1) := by decide +kernel
theorem dX11_atomEnds_62 : decode cX11_atomEnds 62 = .ok (.iaload, 1) := by decide +kernel
theorem dX11_atomEnds_63 : decode cX11_atomEnds 63 = .ok (.if_icmp .ge 28, 3) := by decide +kernel
theorem dX11_atomEnds_66 : decode cX11_atomEnds 66 = .ok (.aload_n 0, 1) := by decide +kernel
theorem dX11_atomEnds_67 : decode cX11_atomEnds 67 = .ok (.aload_n 0, 1) := by decide +kernel
theorem dX11_atomEnds_68 : decode cX11_atomEnds 68 = .ok (.iload_n 1, 1) := by decide +kernel
theorem dX11_atomEnds_69 : decode cX11_atomEnds 69 = .ok (.invokevirtual 408, 3) := by decide +kernel
theorem dX11_atomEnds_72 : decode cX11_atomEnds 72 = .ok (.ifCond .ne 7, 3) := by decide +kernel
theorem dX11_atomEnds_75 : decode cX11_atomEnds 75 = .ok (.iconst 1, 1) := by decide +kernel
theorem dX11_atomEnds_76 : decode cX11_atomEnds 76 = .ok (.goto 4, 3) := by decide +kernel
theorem dX11_atomEnds_79 : decode cX11_atomEnds 79 = .ok (.iconst 0, 1) := by decide +kernel
theorem dX11_atomEnds_80 : decode cX11_atomEnds 80 = .ok (.putfield 389, 3) := by decide +kernel
theorem dX11_atomEnds_83 : decode cX11_atomEnds 83 = .ok (.aload_n 0, 1) := by decide +kernel
theorem dX11_atomEnds_84 : decode cX11_atomEnds 84 = .ok (.iconst 1, 1) := by decide +kernel
theorem dX11_atomEnds_85 : decode cX11_atomEnds 85 = .ok (.putfield 393, 3) := by decide +kernel
theorem dX11_atomEnds_88 : decode cX11_atomEnds 88 = .ok (.goto 37, 3) := by decide +kernel
theorem dX11_atomEnds_91 : decode cX11_atomEnds 91 = .ok (.aload_n 0, 1) := by decide +kernel
theorem dX11_atomEnds_92 : decode cX11_atomEnds 92 = .ok (.invokevirtual 399, 3) := by decide +kernel
theorem dX11_atomEnds_95 : decode cX11_atomEnds 95 = .ok (.ifCond .eq 10, 3) := by decide +kernel
theorem dX11_atomEnds_98 : decode cX11_atomEnds 98 = .ok (.aload_n 0, 1) := by decide +kernel
theorem dX11_atomEnds_99 : decode cX11_atomEnds 99 = .ok (.invokevirtual 324, 3) := by decide +kernel
theorem dX11_atomEnds_102 : decode cX11_atomEnds 102 = .ok (.goto 23, 3) := by decide +kernel
theorem dX11_atomEnds_105 : decode cX11_atomEnds 105 = .ok (.aload_n 0, 1) := by decide +kernel
theorem dX11_atomEnds_106 : decode cX11_atomEnds 106 = .ok (.dup, 1) := by decide +kernel
theorem dX11_atomEnds_107 : decode cX11_atomEnds 107 = .ok (.getfield 342, 3) := by decide +kernel
theorem dX11_atomEnds_110 : decode cX11_atomEnds 110 = .ok (.iconst 1, 1) := by decide +kernel
theorem dX11_atomEnds_111 : decode cX11_atomEnds 111 = .ok (.isub, 1) := by decide +kernel
theorem dX11_atomEnds_112 : decode cX11_atomEnds 112 = .ok (.putfield 342, 3) := by decide +kernel
theorem dX11_atomEnds_115 : decode cX11_atomEnds 115 = .ok (.aload_n 0, 1) := by decide +kernel
theorem dX11_atomEnds_116 : decode cX11_atomEnds 116 = .ok (.iload_n 2, 1) := by decide +kernel
theorem dX11_atomEnds_117 : decode cX11_atomEnds 117 = .ok (.invokevirtual 402, 3) := by decide +kernel
theorem dX11_atomEnds_120 : decode cX11_atomEnds 120 = .ok (.aload_n 0, 1) := by decide +kernel
theorem dX11_atomEnds_121 : decode cX11_atomEnds 121 = .ok (.iconst 1, 1) := by decide +kernel
theorem dX11_atomEnds_122 : decode cX11_atomEnds 122 = .ok (.putfield 424, 3) := by decide +kernel
theorem dX11_atomEnds_125 : decode cX11_atomEnds 125 = .ok (.return_, 1) := by decide +kernel
theorem dX11_atomEnds_126 : decode cX11_atomEnds 126 = .ok (.iload_n 2, 1) := by decide +kernel
theorem dX11_atomEnds_127 : decode cX11_atomEnds 127 = .ok (.ifCond .lt 12, 3) := by decide +kernel
theorem dX11_atomEnds_130 : decode cX11_atomEnds 130 = .ok (.aload_n 0, 1) := by decide +kernel
theorem dX11_atomEnds_131 : decode cX11_atomEnds 131 = .ok (.iload_n 2, 1) := by decide +kernel
theorem dX11_atomEnds_132 : decode cX11_atomEnds 132 = .ok (.aload_n 0, 1) := by decide +kernel
theorem dX11_atomEnds_133 : decode cX11_atomEnds 133 = .ok (.invokevirtual 420, 3) := by decide +kernel
theorem dX11_atomEnds_136 : decode cX11_atomEnds 136 = .ok (.invokevirtual 386, 3) := by decide +kernel
theorem dX11_atomEnds_139 : decode cX11_atomEnds 139 = .ok (.aload_n 0, 1) := by decide +kernel
theorem dX11_atomEnds_140 : decode cX11_atomEnds 140 = .ok (.invokevirtual 399, 3) := by decide +kernel
theorem dX11_atomEnds_143 : decode cX11_atomEnds 143 = .ok (.ifCond .ne 28, 3) := by decide +kernel
theorem dX11_atomEnds_146 : decode cX11_atomEnds 146 = .ok (.aload_n 0, 1) := by decide +kernel
theorem dX11_atomEnds_147 : decode cX11_atomEnds 147 = .ok (.dup, 1) := by decide +kernel
theorem dX11_atomEnds_148 : decode cX11_atomEnds 148 = .ok (.getfield 342, 3) := by decide +kernel
theorem dX11_atomEnds_151 : decode cX11_atomEnds 151 = .ok (.iconst 1, 1) := by decide +kernel
theorem dX11_atomEnds_152 : decode cX11_atomEnds 152 = .ok (.isub, 1) := by decide +kernel
theorem dX11_atomEnds_153 : decode cX11_atomEnds 153 = .ok (.putfield 342, 3) := by decide +kernel
theorem dX11_atomEnds_156 : decode cX11_atomEnds 156 = .ok (.iload_n 2, 1) := by decide +kernel
theorem dX11_atomEnds_157 : decode cX11_atomEnds 157 = .ok (.ifCond .lt 8, 3) := by decide +kernel
theorem dX11_atomEnds_160 : decode cX11_atomEnds 160 = .ok (.aload_n 0, 1) := by decide +kernel
theorem dX11_atomEnds_161 : decode cX11_atomEnds 161 = .ok (.iload_n 2, 1) := by decide +kernel
theorem dX11_atomEnds_162 : decode cX11_atomEnds 162 = .ok (.invokevirtual 402, 3) := by decide +kernel
theorem dX11_atomEnds_165 : decode cX11_atomEnds 165 = .ok (.aload_n 0, 1) := by decide +kernel
theorem dX11_atomEnds_166 : decode cX11_atomEnds 166 = .ok (.iconst 1, 1) := by decide +kernel
theorem dX11_atomEnds_167 : decode cX11_atomEnds 167 = .ok (.putfield 424, 3) := by decide +kernel
theorem dX11_atomEnds_170 : decode cX11_atomEnds 170 = .ok (.return_, 1) := by decide +kernel
theorem dX11_atomEnds_171 : decode cX11_atomEnds 171 = .ok (.aload_n 0, 1) := by decide +kernel
theorem dX11_atomEnds_172 : decode cX11_atomEnds 172 = .ok (.getfield 286, 3) := by decide +kernel
theorem dX11_atomEnds_175 : decode cX11_atomEnds 175 = .ok (.iconst 4, 1) := by decide +kernel
theorem dX11_atomEnds_176 : decode cX11_atomEnds 176 = .ok (.if_icmp .ne 14, 3) := by decide +kernel
theorem dX11_atomEnds_179 : decode cX11_atomEnds 179 = .ok (.aload_n 0, 1) := by decide +kernel
theorem dX11_atomEnds_180 : decode cX11_atomEnds 180 = .ok (.aload_n 0, 1) := by decide +kernel
theorem dX11_atomEnds_181 : decode cX11_atomEnds 181 = .ok (.getfield 278, 3) := by decide +kernel
theorem dX11_atomEnds_184 : decode cX11_atomEnds 184 = .ok (.invokevirtual 396, 3) := by decide +kernel
theorem dX11_atomEnds_187 : decode cX11_atomEnds 187 = .ok (.goto 4, 3) := by decide +kernel
theorem dX11_atomEnds_190 : decode cX11_atomEnds 190 = .ok (.iconst 0, 1) := by decide +kernel
theorem dX11_atomEnds_191 : decode cX11_atomEnds 191 = .ok (.istore 4, 2) := by decide +kernel
theorem dX11_atomEnds_193 : decode cX11_atomEnds 193 = .ok (.aload_n 0, 1) := by decide +kernel
theorem dX11_atomEnds_194 : decode cX11_atomEnds 194 = .ok (.invokevirtual 414, 3) := by decide +kernel
theorem dX11_atomEnds_197 : decode cX11_atomEnds 197 = .ok (.aload_n 0, 1) := by decide +kernel
theorem dX11_atomEnds_198 : decode cX11_atomEnds 198 = .ok (.getfield 286, 3) := by decide +kernel
theorem dX11_atomEnds_201 : decode cX11_atomEnds 201 = .ok (.iconst 4, 1) := by decide +kernel
theorem dX11_atomEnds_202 : decode cX11_atomEnds 202 = .ok (.if_icmp .ne 25, 3) := by decide +kernel
theorem dX11_atomEnds_205 : decode cX11_atomEnds 205 = .ok (.iload 4, 2) := by decide +kernel
theorem dX11_atomEnds_207 : decode cX11_atomEnds 207 = .ok (.ifCond .lt 20, 3) := by decide +kernel
theorem dX11_atomEnds_210 : decode cX11_atomEnds 210 = .ok (.aload_n 0, 1) := by decide +kernel
theorem dX11_atomEnds_211 : decode cX11_atomEnds 211 = .ok (.getfield 62, 3) := by decide +kernel
theorem dX11_atomEnds_214 : decode cX11_atomEnds 214 = .ok (.iload 4, 2) := by decide +kernel
theorem dX11_atomEnds_216 : decode cX11_atomEnds 216 = .ok (.iaload, 1) := by decide +kernel
theorem dX11_atomEnds_217 : decode cX11_atomEnds 217 = .ok (.ifCond .le 10, 3) := by decide +kernel
theorem dX11_atomEnds_220 : decode cX11_atomEnds 220 = .ok (.aload_n 0, 1) := by decide +kernel
theorem dX11_atomEnds_221 : decode cX11_atomEnds 221 = .ok (.invokevirtual 324, 3) := by decide +kernel
theorem dX11_atomEnds_224 : decode cX11_atomEnds 224 = .ok (.goto 35, 3) := by decide +kernel
theorem dX11_atomEnds_227 : decode cX11_atomEnds 227 = .ok (.iload 4, 2) := by decide +kernel
theorem dX11_atomEnds_229 : decode cX11_atomEnds 229 = .ok (.ifCond .ge 15, 3) := by decide +kernel
theorem dX11_atomEnds_232 : decode cX11_atomEnds 232 = .ok (.aload_n 0, 1) := by decide +kernel
theorem dX11_atomEnds_233 : decode cX11_atomEnds 233 = .ok (.iconst 3, 1) := by decide +kernel
theorem dX11_atomEnds_234 : decode cX11_atomEnds 234 = .ok (.aload_n 0, 1) := by decide +kernel
theorem dX11_atomEnds_235 : decode cX11_atomEnds 235 = .ok (.getfield 275, 3) := by decide +kernel
theorem dX11_atomEnds_238 : decode cX11_atomEnds 238 = .ok (.invokevirtual 317, 3) := by decide +kernel
theorem dX11_atomEnds_241 : decode cX11_atomEnds 241 = .ok (.goto 18, 3) := by decide +kernel
theorem dX11_atomEnds_244 : decode cX11_atomEnds 244 = .ok (.iload_n 3, 1) := by decide +kernel
theorem dX11_atomEnds_245 : decode cX11_atomEnds 245 = .ok (.bipush 6, 2) := by decide +kernel
theorem dX11_atomEnds_247 : decode cX11_atomEnds 247 = .ok (.if_icmp .ne 12, 3) := by decide +kernel
theorem dX11_atomEnds_250 : decode cX11_atomEnds 250 = .ok (.aload_n 0, 1) := by decide +kernel
theorem dX11_atomEnds_251 : decode cX11_atomEnds 251 = .ok (.iconst 4, 1) := by decide +kernel
theorem dX11_atomEnds_252 : decode cX11_atomEnds 252 = .ok (.aload_n 0, 1) := by decide +kernel
theorem dX11_atomEnds_253 : decode cX11_atomEnds 253 = .ok (.getfield 275, 3) := by decide +kernel
theorem dX11_atomEnds_256 : decode cX11_atomEnds 256 = .ok (.invokevirtual 317, 3) := by decide +kernel
theorem dX11_atomEnds_259 : decode cX11_atomEnds 259 = .ok (.aload_n 0, 1) := by decide +kernel
theorem dX11_atomEnds_260 : decode cX11_atomEnds 260 = .ok (.getfield 311, 3) := by decide +kernel
theorem dX11_atomEnds_263 : decode cX11_atomEnds 263 = .ok (.ifCond .ne 40, 3) := by decide +kernel
theorem dX11_atomEnds_266 : decode cX11_atomEnds 266 = .ok (.iload_n 2, 1) := by decide +kernel
theorem dX11_atomEnds_267 : decode cX11_atomEnds 267 = .ok (.ifCond .ge 36, 3) := by decide +kernel
theorem dX11_atomEnds_270 : decode cX11_atomEnds 270 = .ok (.aload_n 0, 1) := by decide +kernel
theorem dX11_atomEnds_271 : decode cX11_atomEnds 271 = .ok (.invokevirtual 355, 3) := by decide +kernel
theorem dX11_atomEnds_274 : decode cX11_atomEnds 274 = .ok (.ifCond .eq 29, 3) := by decide +kernel
theorem dX11_atomEnds_277 : decode cX11_atomEnds 277 = .ok (.aload_n 0, 1) := by decide +kernel
theorem dX11_atomEnds_278 : decode cX11_atomEnds 278 = .ok (.bipush 6, 2) := by decide +kernel
theorem dX11_atomEnds_280 : decode cX11_atomEnds 280 = .ok (.invokevirtual 369, 3) := by decide +kernel
theorem dX11_atomEnds_283 : decode cX11_atomEnds 283 = .ok (.istore 5, 2) := by decide +kernel
theorem dX11_atomEnds_285 : decode cX11_atomEnds 285 = .ok (.aload_n 0, 1) := by decide +kernel
theorem dX11_atomEnds_286 : decode cX11_atomEnds 286 = .ok (.iload 5, 2) := by decide +kernel
theorem dX11_atomEnds_288 : decode cX11_atomEnds 288 = .ok (.aload_n 0, 1) := by decide +kernel
theorem dX11_atomEnds_289 : decode cX11_atomEnds 289 = .ok (.invokevirtual 420, 3) := by decide +kernel
theorem dX11_atomEnds_292 : decode cX11_atomEnds 292 = .ok (.invokevirtual 386, 3) := by decide +kernel
theorem dX11_atomEnds_295 : decode cX11_atomEnds 295 = .ok (.aload_n 0, 1) := by decide +kernel
theorem dX11_atomEnds_296 : decode cX11_atomEnds 296 = .ok (.getfield 68, 3) := by decide +kernel
theorem dX11_atomEnds_299 : decode cX11_atomEnds 299 = .ok (.iload_n 1, 1) := by decide +kernel
theorem dX11_atomEnds_300 : decode cX11_atomEnds 300 = .ok (.iload 5, 2) := by decide +kernel
theorem dX11_atomEnds_302 : decode cX11_atomEnds 302 = .ok (.iastore, 1) := by decide +kernel
theorem dX11_atomEnds_303 : decode cX11_atomEnds 303 = .ok (.aload_n 0, 1) := by decide +kernel
theorem dX11_atomEnds_304 : decode cX11_atomEnds 304 = .ok (.aload_n 0, 1) := by decide +kernel
theorem dX11_atomEnds_305 : decode cX11_atomEnds 305 = .ok (.getfield 311, 3) := by decide +kernel
theorem dX11_atomEnds_308 : decode cX11_atomEnds 308 = .ok (.ifCond .ne 14, 3) := by decide +kernel
theorem dX11_atomEnds_311 : decode cX11_atomEnds 311 = .ok (.aload_n 0, 1) := by decide +kernel
theorem dX11_atomEnds_312 : decode cX11_atomEnds 312 = .ok (.invokevirtual 411, 3) := by decide +kernel
theorem dX11_atomEnds_315 : decode cX11_atomEnds 315 = .ok (.ifCond .ne 7, 3) := by decide +kernel
theorem dX11_atomEnds_318 : decode cX11_atomEnds 318 = .ok (.iconst 1, 1) := by decide +kernel
theorem dX11_atomEnds_319 : decode cX11_atomEnds 319 = .ok (.goto 4, 3) := by decide +kernel
theorem dX11_atomEnds_322 : decode cX11_atomEnds 322 = .ok (.iconst 0, 1) := by decide +kernel
theorem dX11_atomEnds_323 : decode cX11_atomEnds 323 = .ok (.putfield 389, 3) := by decide +kernel
theorem dX11_atomEnds_326 : decode cX11_atomEnds 326 = .ok (.aload_n 0, 1) := by decide +kernel
theorem dX11_atomEnds_327 : decode cX11_atomEnds 327 = .ok (.iconst 1, 1) := by decide +kernel
theorem dX11_atomEnds_328 : decode cX11_atomEnds 328 = .ok (.putfield 393, 3) := by decide +kernel
theorem dX11_atomEnds_331 : decode cX11_atomEnds 331 = .ok (.return_, 1) := by decide +kernel
theorem mw_X11_atomEnds : MW yX11_atomEnds (Cond.code yX11_atomEnds cX11_atomEnds 6 (Option.none : Option Jvm.ClassFile.FieldType)) cX11_atomEnds 6 (Option.none : Option Jvm.ClassFile.FieldType) 0 := ⟨rfl, ⟨(lw_all_tbl q3074), rfl, (lw_all_tbl q173)⟩, rfl, ⟨by decide, by decide⟩, by decide +kernel⟩
noncomputable def t_atomEnds_80  (k0 : Int) : Mo TS Int :=
  bnd (ss 43 k0) fun _ =>
  bnd (ss 42 1) fun _ =>
  pr 0
theorem st_atomEnds_80 {Γ : Gm} {h : CH} {d : Nat} (hT : HT h) (o : Ok Γ "LazyForgeModel" cX11_atomEnds 6 (Option.none : Option Jvm.ClassFile.FieldType) (d + 7))   (k0 : Int) (hk0 : rg .boolean k0) : Sx Γ (fun t => (h, t)) (fun a s => mt Γ = (0, a, ((h, s) : Wd))) 80 [(0, vA (mg Γ) 21)] [vI k0, vA (mg Γ) 21] (t_atomEnds_80 k0) := by
  unfold t_atomEnds_80
  refine r_tpf vI rfl o hT tf_wants tj_wants (lw_all_tbl q2547) dX11_atomEnds_80 hk0 ty_boolean ?_
  refine s_aload_n o dX11_atomEnds_83 rfl 0 rfl ?_
  refine s_iconst o dX11_atomEnds_84 ?_
  refine r_tpf vI rfl o hT tf_startsE tj_startsE (lw_all_tbl q2546) dX11_atomEnds_85 (Or.inr rfl) ty_boolean ?_
  refine s_goto (tgt := 125) o dX11_atomEnds_88 (by decide) ?_
  exact s_vret o rfl dX11_atomEnds_125 (fun _ hh => hh)
noncomputable def t_atomEnds_165  : Mo TS Int :=
  bnd (ss 44 1) fun _ =>
  pr 0
theorem st_atomEnds_165 {Γ : Gm} {h : CH} {d : Nat} (hT : HT h) (o : Ok Γ "LazyForgeModel" cX11_atomEnds 6 (Option.none : Option Jvm.ClassFile.FieldType) (d + 7))   : Sx Γ (fun t => (h, t)) (fun a s => mt Γ = (0, a, ((h, s) : Wd))) 165 [(0, vA (mg Γ) 21)] [] (t_atomEnds_165) := by
  unfold t_atomEnds_165
  refine s_aload_n o dX11_atomEnds_165 rfl 0 rfl ?_
  refine s_iconst o dX11_atomEnds_166 ?_
  refine r_tpf vI rfl o hT tf_isApplied tj_isApplied (lw_all_tbl q2548) dX11_atomEnds_167 (Or.inr rfl) ty_boolean ?_
  exact s_vret o rfl dX11_atomEnds_170 (fun _ hh => hh)
noncomputable def t_atomEnds_323  (k0 : Int) : Mo TS Int :=
  bnd (ss 43 k0) fun _ =>
  bnd (ss 42 1) fun _ =>
  pr 0
theorem st_atomEnds_323 {Γ : Gm} {h : CH} {d : Nat} (hT : HT h) (o : Ok Γ "LazyForgeModel" cX11_atomEnds 6 (Option.none : Option Jvm.ClassFile.FieldType) (d + 7))   (k0 : Int) (hk0 : rg .boolean k0) : Sx Γ (fun t => (h, t)) (fun a s => mt Γ = (0, a, ((h, s) : Wd))) 323 [(0, vA (mg Γ) 21)] [vI k0, vA (mg Γ) 21] (t_atomEnds_323 k0) := by
  unfold t_atomEnds_323
  refine r_tpf vI rfl o hT tf_wants tj_wants (lw_all_tbl q2547) dX11_atomEnds_323 hk0 ty_boolean ?_
  refine s_aload_n o dX11_atomEnds_326 rfl 0 rfl ?_
  refine s_iconst o dX11_atomEnds_327 ?_
  refine r_tpf vI rfl o hT tf_startsE tj_startsE (lw_all_tbl q2546) dX11_atomEnds_328 (Or.inr rfl) ty_boolean ?_
  exact s_vret o rfl dX11_atomEnds_331 (fun _ hh => hh)
noncomputable def t_atomEnds_322  : Mo TS Int :=
  t_atomEnds_323 0
theorem st_atomEnds_322 {Γ : Gm} {h : CH} {d : Nat} (hT : HT h) (o : Ok Γ "LazyForgeModel" cX11_atomEnds 6 (Option.none : Option Jvm.ClassFile.FieldType) (d + 7))   : Sx Γ (fun t => (h, t)) (fun a s => mt Γ = (0, a, ((h, s) : Wd))) 322 [(0, vA (mg Γ) 21)] [vA (mg Γ) 21] (t_atomEnds_322) := by
  unfold t_atomEnds_322
  refine s_iconst o dX11_atomEnds_322 ?_
  exact st_atomEnds_323 hT o 0 (Or.inl rfl)
noncomputable def t_atomEnds_303  : Mo TS Int :=
  bnd (gs 10) fun v1 =>
  if ¬ v1 = 0 then
    t_atomEnds_322
  else
    bnd (t_atom) fun v2 =>
    if ¬ v2 = 0 then
      t_atomEnds_322
    else
      t_atomEnds_323 1
theorem st_atomEnds_303 {Γ : Gm} {h : CH} {d : Nat} (hT : HT h) (o : Ok Γ "LazyForgeModel" cX11_atomEnds 6 (Option.none : Option Jvm.ClassFile.FieldType) (d + 7))   : Sx Γ (fun t => (h, t)) (fun a s => mt Γ = (0, a, ((h, s) : Wd))) 303 [(0, vA (mg Γ) 21)] [] (t_atomEnds_303) := by
  unfold t_atomEnds_303
  refine s_aload_n o dX11_atomEnds_303 rfl 0 rfl ?_
  refine s_aload_n o dX11_atomEnds_304 rfl 0 rfl ?_
  refine r_tgf vI rfl o hT tf_fault tj_fault (lw_all_tbl q2514) dX11_atomEnds_305 (fun v1 hv1 => ?_)
  refine s_if_ne (tgt := 322) o dX11_atomEnds_308 (by decide) hv1 ?_ ?_
  · exact st_atomEnds_322 hT o
  · refine s_aload_n o dX11_atomEnds_311 rfl 0 rfl ?_
    refine s_cv (d := d + 6) (C := "LazyForgeModel") (As := []) (st := [vA (mg Γ) 21]) o (st_atom (mg Γ) (d + 1) h hT) mw_X11_atom rfl (Or.inl (lw_all_tbl q3063)) (lw_all_tbl qs86) (lw_all_tbl q3065) (fun t => rc_t o hT t) (wt_A wt_0) rfl dX11_atomEnds_312 rfl (rs := fun r => [vI r, vA (mg Γ) 21]) (fun _ => rfl) (fun v2 hv2 => ?_)
    refine s_if_ne (tgt := 322) o dX11_atomEnds_315 (by decide) (rZ (hv2 _ rfl)) ?_ ?_
    · exact st_atomEnds_322 hT o
    · refine s_iconst o dX11_atomEnds_318 ?_
      refine s_goto (tgt := 323) o dX11_atomEnds_319 (by decide) ?_
      exact st_atomEnds_323 hT o 1 (Or.inr rfl)
noncomputable def t_atomEnds_259  (l1 : Int) (l2 : Int) : Mo TS Int :=
  bnd (gs 10) fun v1 =>
  if ¬ v1 = 0 then
    t_atomEnds_303
  else
    if 0 ≤ l2 then
      t_atomEnds_303
    else
      bnd (t_part) fun v2 =>
      if v2 = 0 then
        t_atomEnds_303
      else
        bnd (t_node 6) fun v3 =>
        bnd (t_taken) fun v4 =>
        bnd (t_append v3 v4) fun _ =>
        bnd (wr 37 3200 l1 v3) fun _ =>
        t_atomEnds_303
theorem st_atomEnds_259 {Γ : Gm} {h : CH} {d : Nat} (hT : HT h) (o : Ok Γ "LazyForgeModel" cX11_atomEnds 6 (Option.none : Option Jvm.ClassFile.FieldType) (d + 7))   (l1 : Int) (l2 : Int) (hl1 : R32 l1) (hl2 : R32 l2) : Sx Γ (fun t => (h, t)) (fun a s => mt Γ = (0, a, ((h, s) : Wd))) 259 [(0, vA (mg Γ) 21), (1, vI l1), (2, vI l2)] [] (t_atomEnds_259 l1 l2) := by
  unfold t_atomEnds_259
  refine s_aload_n o dX11_atomEnds_259 rfl 0 rfl ?_
  refine r_tgf vI rfl o hT tf_fault tj_fault (lw_all_tbl q2514) dX11_atomEnds_260 (fun v1 hv1 => ?_)
  refine s_if_ne (tgt := 303) o dX11_atomEnds_263 (by decide) hv1 ?_ ?_
  · refine r_to [(0, vA (mg Γ) 21)] [0] rfl ?_
    exact st_atomEnds_303 hT o
  · refine s_iload_n o dX11_atomEnds_266 rfl 2 rfl ?_
    refine s_if_ge (tgt := 303) o dX11_atomEnds_267 (by decide) hl2 ?_ ?_
    · refine r_to [(0, vA (mg Γ) 21)] [0] rfl ?_
      exact st_atomEnds_303 hT o
    · refine s_aload_n o dX11_atomEnds_270 rfl 0 rfl ?_
      refine s_cv (d := d + 6) (C := "LazyForgeModel") (As := []) (st := []) o (st_part (mg Γ) (d + 5) h hT) mw_X11_part rfl (Or.inl (lw_all_tbl q3007)) (lw_all_tbl qs72) (lw_all_tbl q3009) (fun t => rc_t o hT t) wt_0 rfl dX11_atomEnds_271 rfl (rs := fun r => [vI r]) (fun _ => rfl) (fun v2 hv2 => ?_)
      refine s_if_eq (tgt := 303) o dX11_atomEnds_274 (by decide) (rZ (hv2 _ rfl)) ?_ ?_
      · refine r_to [(0, vA (mg Γ) 21)] [0] rfl ?_
        exact st_atomEnds_303 hT o
      · refine s_aload_n o dX11_atomEnds_277 rfl 0 rfl ?_
        refine s_bipush o dX11_atomEnds_278 rfl ?_
        refine s_cv (d := d + 6) (C := "LazyForgeModel") (As := [vI 6]) (st := []) o (st_node (mg Γ) (d + 6) h hT 6 (r32 rfl)) mw_X11_node rfl (Or.inl (lw_all_tbl q2995)) (lw_all_tbl qs69) (lw_all_tbl q2997) (fun t => rc_t o hT t) wt_0 rfl dX11_atomEnds_280 rfl (rs := fun r => [vI r]) (fun _ => rfl) (fun v3 hv3 => ?_)
        refine r_istore o dX11_atomEnds_283 rfl ⟨(Nat.ne_of_beq_eq_false rfl), (fun _ => (vA_cat (mg Γ) 21)), ⟨(Nat.ne_of_beq_eq_false rfl), (fun _ => rfl), ⟨(Nat.ne_of_beq_eq_false rfl), (fun _ => rfl), trivial⟩⟩⟩ ?_
        refine s_aload_n o dX11_atomEnds_285 rfl 1 rfl ?_
        refine s_iload o dX11_atomEnds_286 0 rfl ?_
        refine s_aload_n o dX11_atomEnds_288 rfl 1 rfl ?_
        refine s_cv (d := d + 6) (C := "LazyForgeModel") (As := []) (st := [vI v3, vA (mg Γ) 21]) o (st_taken (mg Γ) (d + 6) h hT) mw_X11_taken rfl (Or.inl (lw_all_tbl q3075)) (lw_all_tbl qs89) (lw_all_tbl q3077) (fun t => rc_t o hT t) (wt_I (wt_A wt_0)) rfl dX11_atomEnds_289 rfl (rs := fun r => [vI r, vI v3, vA (mg Γ) 21]) (fun _ => rfl) (fun v4 hv4 => ?_)
        refine s_cv (d := d + 6) (C := "LazyForgeModel") (As := [vI v3, vI v4]) (st := []) o (st_append (mg Γ) (d + 6) h hT v3 v4 (hv3 _ rfl) (hv4 _ rfl)) mw_X11_append rfl (Or.inl (lw_all_tbl q3039)) (lw_all_tbl qs80) (lw_all_tbl q3041) (fun t => rc_t o hT t) wt_0 rfl dX11_atomEnds_292 rfl (rs := fun _ => []) (fun _ => rfl) (fun _ _ => ?_)
        refine s_aload_n o dX11_atomEnds_295 rfl 1 rfl ?_
        refine s_tga (x := 41) o hT tf_pileNodes ta_pileNodes (lw_all_tbl q2541) dX11_atomEnds_296 ?_
        refine s_iload_n o dX11_atomEnds_299 rfl 2 rfl ?_
        refine s_iload o dX11_atomEnds_300 0 rfl ?_
        refine r_tiast o hT tr_pileNodes hl1 (hv3 _ rfl) dX11_atomEnds_302 ?_
        refine r_to [(0, vA (mg Γ) 21)] [1] rfl ?_
        exact st_atomEnds_303 hT o
noncomputable def t_atomEnds_227  (l1 : Int) (l2 : Int) (l3 : Int) (l4 : Int) : Mo TS Int :=
  if 0 ≤ l4 then
    if ¬ l3 = 6 then
      t_atomEnds_259 l1 l2
    else
      bnd (gs 7) fun v1 =>
      bnd (t_fail 4 v1) fun _ =>
      t_atomEnds_259 l1 l2
  else
    bnd (gs 7) fun v2 =>
    bnd (t_fail 3 v2) fun _ =>
    t_atomEnds_259 l1 l2
theorem st_atomEnds_227 {Γ : Gm} {h : CH} {d : Nat} (hT : HT h) (o : Ok Γ "LazyForgeModel" cX11_atomEnds 6 (Option.none : Option Jvm.ClassFile.FieldType) (d + 7))   (l1 : Int) (l2 : Int) (l3 : Int) (l4 : Int) (hl1 : R32 l1) (hl2 : R32 l2) (hl3 : R32 l3) (hl4 : R32 l4) : Sx Γ (fun t => (h, t)) (fun a s => mt Γ = (0, a, ((h, s) : Wd))) 227 [(0, vA (mg Γ) 21), (1, vI l1), (2, vI l2), (3, vI l3), (4, vI l4)] [] (t_atomEnds_227 l1 l2 l3 l4) := by
  unfold t_atomEnds_227
  refine s_iload o dX11_atomEnds_227 4 rfl ?_
  refine s_if_ge (tgt := 244) o dX11_atomEnds_229 (by decide) hl4 ?_ ?_
  · refine s_iload_n o dX11_atomEnds_244 rfl 3 rfl ?_
    refine s_bipush o dX11_atomEnds_245 rfl ?_
    refine s_icmp_ne (tgt := 259) o dX11_atomEnds_247 (by decide) hl3 (r32 rfl) ?_ ?_
    · refine r_to [(0, vA (mg Γ) 21), (1, vI l1), (2, vI l2)] [0, 1, 2] rfl ?_
      exact st_atomEnds_259 hT o l1 l2 hl1 hl2
    · refine s_aload_n o dX11_atomEnds_250 rfl 0 rfl ?_
      refine s_iconst o dX11_atomEnds_251 ?_
      refine s_aload_n o dX11_atomEnds_252 rfl 0 rfl ?_
      refine r_tgf vI rfl o hT tf_wordPlace tj_wordPlace (lw_all_tbl q2511) dX11_atomEnds_253 (fun v1 hv1 => ?_)
      refine s_cv (d := d + 6) (C := "LazyForgeModel") (As := [vI 4, vI v1]) (st := []) o (st_fail (mg Γ) (d + 6) h hT 4 v1 (r32 rfl) hv1) mw_X11_fail rfl (Or.inl (lw_all_tbl q2975)) (lw_all_tbl qs64) (lw_all_tbl q2977) (fun t => rc_t o hT t) wt_0 rfl dX11_atomEnds_256 rfl (rs := fun _ => []) (fun _ => rfl) (fun _ _ => ?_)
      refine r_to [(0, vA (mg Γ) 21), (1, vI l1), (2, vI l2)] [0, 1, 2] rfl ?_
      exact st_atomEnds_259 hT o l1 l2 hl1 hl2
  · refine s_aload_n o dX11_atomEnds_232 rfl 0 rfl ?_
    refine s_iconst o dX11_atomEnds_233 ?_
    refine s_aload_n o dX11_atomEnds_234 rfl 0 rfl ?_
    refine r_tgf vI rfl o hT tf_wordPlace tj_wordPlace (lw_all_tbl q2511) dX11_atomEnds_235 (fun v2 hv2 => ?_)
    refine s_cv (d := d + 6) (C := "LazyForgeModel") (As := [vI 3, vI v2]) (st := []) o (st_fail (mg Γ) (d + 6) h hT 3 v2 (r32 rfl) hv2) mw_X11_fail rfl (Or.inl (lw_all_tbl q2975)) (lw_all_tbl qs64) (lw_all_tbl q2977) (fun t => rc_t o hT t) wt_0 rfl dX11_atomEnds_238 rfl (rs := fun _ => []) (fun _ => rfl) (fun _ _ => ?_)
    refine s_goto (tgt := 259) o dX11_atomEnds_241 (by decide) ?_
    refine r_to [(0, vA (mg Γ) 21), (1, vI l1), (2, vI l2)] [0, 1, 2] rfl ?_
    exact st_atomEnds_259 hT o l1 l2 hl1 hl2
noncomputable def t_atomEnds_191  (l1 : Int) (l2 : Int) (l3 : Int) (k0 : Int) : Mo TS Int :=
  bnd (t_tooDeep) fun _ =>
  bnd (gs 6) fun v1 =>
  if ¬ v1 = 4 then
    t_atomEnds_227 l1 l2 l3 k0
  else
    if k0 < 0 then
      t_atomEnds_227 l1 l2 l3 k0
    else
      bnd (rd 33 30 k0) fun v2 =>
      if v2 ≤ 0 then
        t_atomEnds_227 l1 l2 l3 k0
      else
        bnd (t_wrong) fun _ =>
        t_atomEnds_259 l1 l2
theorem st_atomEnds_191 {Γ : Gm} {h : CH} {d : Nat} (hT : HT h) (o : Ok Γ "LazyForgeModel" cX11_atomEnds 6 (Option.none : Option Jvm.ClassFile.FieldType) (d + 7))   (l1 : Int) (l2 : Int) (l3 : Int) (k0 : Int) (hl1 : R32 l1) (hl2 : R32 l2) (hl3 : R32 l3) (hk0 : R32 k0) : Sx Γ (fun t => (h, t)) (fun a s => mt Γ = (0, a, ((h, s) : Wd))) 191 [(0, vA (mg Γ) 21), (1, vI l1), (2, vI l2), (3, vI l3)] [vI k0] (t_atomEnds_191 l1 l2 l3 k0) := by
  unfold t_atomEnds_191
  refine r_istore o dX11_atomEnds_191 rfl ⟨(Nat.ne_of_beq_eq_false rfl), (fun _ => (vA_cat (mg Γ) 21)), ⟨(Nat.ne_of_beq_eq_false rfl), (fun _ => rfl), ⟨(Nat.ne_of_beq_eq_false rfl), (fun _ => rfl), ⟨(Nat.ne_of_beq_eq_false rfl), (fun _ => rfl), trivial⟩⟩⟩⟩ ?_
  refine s_aload_n o dX11_atomEnds_193 rfl 1 rfl ?_
  refine s_cv (d := d + 6) (C := "LazyForgeModel") (As := []) (st := []) o (st_tooDeep (mg Γ) (d + 4) h hT) mw_X11_tooDeep rfl (Or.inl (lw_all_tbl q3055)) (lw_all_tbl qs84) (lw_all_tbl q3057) (fun t => rc_t o hT t) wt_0 rfl dX11_atomEnds_194 rfl (rs := fun _ => []) (fun _ => rfl) (fun _ _ => ?_)
  refine s_aload_n o dX11_atomEnds_197 rfl 1 rfl ?_
  refine r_tgf vI rfl o hT tf_word tj_word (lw_all_tbl q2510) dX11_atomEnds_198 (fun v1 hv1 => ?_)
  refine s_iconst o dX11_atomEnds_201 ?_
  refine s_icmp_ne (tgt := 227) o dX11_atomEnds_202 (by decide) hv1 (r32 rfl) ?_ ?_
  · refine r_to [(0, vA (mg Γ) 21), (1, vI l1), (2, vI l2), (3, vI l3), (4, vI k0)] [1, 2, 3, 4, 0] rfl ?_
    exact st_atomEnds_227 hT o l1 l2 l3 k0 hl1 hl2 hl3 hk0
  · refine s_iload o dX11_atomEnds_205 0 rfl ?_
    refine s_if_lt (tgt := 227) o dX11_atomEnds_207 (by decide) hk0 ?_ ?_
    · refine r_to [(0, vA (mg Γ) 21), (1, vI l1), (2, vI l2), (3, vI l3), (4, vI k0)] [1, 2, 3, 4, 0] rfl ?_
      exact st_atomEnds_227 hT o l1 l2 l3 k0 hl1 hl2 hl3 hk0
    · refine s_aload_n o dX11_atomEnds_210 rfl 1 rfl ?_
      refine s_tga (x := 39) o hT tf_fieldCounts ta_fieldCounts (lw_all_tbl q2537) dX11_atomEnds_211 ?_
      refine s_iload o dX11_atomEnds_214 0 rfl ?_
      refine r_tiald o hT tr_fieldCounts hk0 dX11_atomEnds_216 (fun v2 hv2 => ?_)
      refine s_if_le (tgt := 227) o dX11_atomEnds_217 (by decide) hv2 ?_ ?_
      · refine r_to [(0, vA (mg Γ) 21), (1, vI l1), (2, vI l2), (3, vI l3), (4, vI k0)] [1, 2, 3, 4, 0] rfl ?_
        exact st_atomEnds_227 hT o l1 l2 l3 k0 hl1 hl2 hl3 hk0
      · refine s_aload_n o dX11_atomEnds_220 rfl 1 rfl ?_
        refine s_cv (d := d + 6) (C := "LazyForgeModel") (As := []) (st := []) o (st_wrong (mg Γ) (d + 5) h hT) mw_X11_wrong rfl (Or.inl (lw_all_tbl q2983)) (lw_all_tbl qs66) (lw_all_tbl q2985) (fun t => rc_t o hT t) wt_0 rfl dX11_atomEnds_221 rfl (rs := fun _ => []) (fun _ => rfl) (fun _ _ => ?_)
        refine s_goto (tgt := 259) o dX11_atomEnds_224 (by decide) ?_
        refine r_to [(0, vA (mg Γ) 21), (1, vI l1), (2, vI l2)] [1, 2, 3] rfl ?_
        exact st_atomEnds_259 hT o l1 l2 hl1 hl2
noncomputable def t_atomEnds_139  (l1 : Int) (l2 : Int) (l3 : Int) : Mo TS Int :=
  bnd (t_isAtom) fun v1 =>
  if ¬ v1 = 0 then
    bnd (gs 6) fun v2 =>
    if ¬ v2 = 4 then
      t_atomEnds_191 l1 l2 l3 0
    else
      bnd (gs 8) fun v3 =>
      bnd (t_findConstructor v3) fun v4 =>
      t_atomEnds_191 l1 l2 l3 v4
  else
    bnd (gs 35) fun v5 =>
    bnd (ss 35 (w32 (v5 - 1))) fun _ =>
    if l2 < 0 then
      t_atomEnds_165
    else
      bnd (t_operand l2) fun _ =>
      t_atomEnds_165
theorem st_atomEnds_139 {Γ : Gm} {h : CH} {d : Nat} (hT : HT h) (o : Ok Γ "LazyForgeModel" cX11_atomEnds 6 (Option.none : Option Jvm.ClassFile.FieldType) (d + 7))   (l1 : Int) (l2 : Int) (l3 : Int) (hl1 : R32 l1) (hl2 : R32 l2) (hl3 : R32 l3) : Sx Γ (fun t => (h, t)) (fun a s => mt Γ = (0, a, ((h, s) : Wd))) 139 [(0, vA (mg Γ) 21), (1, vI l1), (2, vI l2), (3, vI l3)] [] (t_atomEnds_139 l1 l2 l3) := by
  unfold t_atomEnds_139
  refine s_aload_n o dX11_atomEnds_139 rfl 0 rfl ?_
  refine s_cv (d := d + 6) (C := "LazyForgeModel") (As := []) (st := []) o (st_isAtom (mg Γ) (d + 5) h hT) mw_X11_isAtom rfl (Or.inl (lw_all_tbl q3059)) (lw_all_tbl qs85) (lw_all_tbl q3061) (fun t => rc_t o hT t) wt_0 rfl dX11_atomEnds_140 rfl (rs := fun r => [vI r]) (fun _ => rfl) (fun v1 hv1 => ?_)
  refine s_if_ne (tgt := 171) o dX11_atomEnds_143 (by decide) (rZ (hv1 _ rfl)) ?_ ?_
  · refine s_aload_n o dX11_atomEnds_171 rfl 0 rfl ?_
    refine r_tgf vI rfl o hT tf_word tj_word (lw_all_tbl q2510) dX11_atomEnds_172 (fun v2 hv2 => ?_)
    refine s_iconst o dX11_atomEnds_175 ?_
    refine s_icmp_ne (tgt := 190) o dX11_atomEnds_176 (by decide) hv2 (r32 rfl) ?_ ?_
    · refine s_iconst o dX11_atomEnds_190 ?_
      exact st_atomEnds_191 hT o l1 l2 l3 0 hl1 hl2 hl3 (r32 rfl)
    · refine s_aload_n o dX11_atomEnds_179 rfl 0 rfl ?_
      refine s_aload_n o dX11_atomEnds_180 rfl 0 rfl ?_
      refine r_tgf vJ rfl o hT tf_wordName tj_wordName (lw_all_tbl q2512) dX11_atomEnds_181 (fun v3 hv3 => ?_)
      refine s_cv (d := d + 6) (C := "LazyForgeModel") (As := [vJ v3]) (st := []) o (st_findConstructor (mg Γ) (d + 6) h hT v3 hv3) mw_X11_findConstructor rfl (Or.inl (lw_all_tbl q2971)) (lw_all_tbl qs63) (lw_all_tbl q2973) (fun t => rc_t o hT t) wt_0 rfl dX11_atomEnds_184 rfl (rs := fun r => [vI r]) (fun _ => rfl) (fun v4 hv4 => ?_)
      refine s_goto (tgt := 191) o dX11_atomEnds_187 (by decide) ?_
      exact st_atomEnds_191 hT o l1 l2 l3 v4 hl1 hl2 hl3 (hv4 _ rfl)
  · refine s_aload_n o dX11_atomEnds_146 rfl 0 rfl ?_
    refine s_dup o dX11_atomEnds_147 (vA_cat (mg Γ) 21) ?_
    refine r_tgf vI rfl o hT tf_piled tj_piled (lw_all_tbl q2539) dX11_atomEnds_148 (fun v5 hv5 => ?_)
    refine s_iconst o dX11_atomEnds_151 ?_
    refine s_isub o dX11_atomEnds_152 ?_
    refine r_tpf vI rfl o hT tf_piled tj_piled (lw_all_tbl q2539) dX11_atomEnds_153 (w32_R _) ty_int ?_
    refine s_iload_n o dX11_atomEnds_156 rfl 2 rfl ?_
    refine s_if_lt (tgt := 165) o dX11_atomEnds_157 (by decide) hl2 ?_ ?_
    · refine r_to [(0, vA (mg Γ) 21)] [0] rfl ?_
      exact st_atomEnds_165 hT o
    · refine s_aload_n o dX11_atomEnds_160 rfl 0 rfl ?_
      refine s_iload_n o dX11_atomEnds_161 rfl 2 rfl ?_
      refine s_cv (d := d + 6) (C := "LazyForgeModel") (As := [vI l2]) (st := []) o (st_operand (mg Γ) (d + 6) h hT l2 hl2) mw_X11_operand rfl (Or.inl (lw_all_tbl q3067)) (lw_all_tbl qs87) (lw_all_tbl q3069) (fun t => rc_t o hT t) wt_0 rfl dX11_atomEnds_162 rfl (rs := fun _ => []) (fun _ => rfl) (fun _ _ => ?_)
      refine r_to [(0, vA (mg Γ) 21)] [0] rfl ?_
      exact st_atomEnds_165 hT o
noncomputable def t_atomEnds : Mo TS Int :=
  bnd (gs 35) fun v1 =>
  bnd (rd 37 3200 (w32 (v1 - 1))) fun v2 =>
  bnd (rd 39 3200 (w32 (v1 - 1))) fun v3 =>
  bnd (wr 39 3200 (w32 (v1 - 1)) (w32 (v3 + 1))) fun _ =>
  bnd (rd 39 3200 (w32 (v1 - 1))) fun v4 =>
  bnd (rd 36 3200 (w32 (v1 - 1))) fun v5 =>
  if ¬ v5 = 9 then
    if v2 < 0 then
      t_atomEnds_139 (w32 (v1 - 1)) v2 v4
    else
      bnd (t_taken) fun v6 =>
      bnd (t_append v2 v6) fun _ =>
      t_atomEnds_139 (w32 (v1 - 1)) v2 v4
  else
    bnd (t_taken) fun v7 =>
    bnd (t_append v2 v7) fun _ =>
    bnd (rd 18 3200 v2) fun v8 =>
    bnd (rd 33 30 v8) fun v9 =>
    if v9 ≤ v4 then
      bnd (t_isAtom) fun v10 =>
      if v10 = 0 then
        bnd (gs 35) fun v11 =>
        bnd (ss 35 (w32 (v11 - 1))) fun _ =>
        bnd (t_operand v2) fun _ =>
        bnd (ss 44 1) fun _ =>
        pr 0
      else
        bnd (t_wrong) fun _ =>
        pr 0
    else
      bnd (t_field (w32 (v1 - 1))) fun v12 =>
      if ¬ v12 = 0 then
        t_atomEnds_80 0
      else
        t_atomEnds_80 1
theorem st_atomEnds (g : gC) (d : Nat) (h : CH) (hT : HT h) : SF g yX11_atomEnds (Cond.code yX11_atomEnds cX11_atomEnds 6 (Option.none : Option Jvm.ClassFile.FieldType)) (Option.none : Option Jvm.ClassFile.FieldType) (d + 7) [vA g 21] (fun t => (h, t)) (t_atomEnds) := by
  refine SF.of (lv := [(0, vA g 21)]) (by decide) (wt_A wt_0) rfl (by simp only [la_A, la_I, la_J, la_0]) (fun Γ hg hnm o => ?_)
  subst hg
  have o : Ok Γ "LazyForgeModel" cX11_atomEnds 6 (Option.none : Option Jvm.ClassFile.FieldType) (d + 7) := o
  unfold t_atomEnds
  refine s_aload_n o dX11_atomEnds_0 rfl 0 rfl ?_
  refine r_tgf vI rfl o hT tf_piled tj_piled (lw_all_tbl q2539) dX11_atomEnds_1 (fun v1 hv1 => ?_)
  refine s_iconst o dX11_atomEnds_4 ?_
  refine s_isub o dX11_atomEnds_5 ?_
  refine r_istore_n o dX11_atomEnds_6 rfl rfl ⟨(Nat.ne_of_beq_eq_false rfl), (fun _ => (vA_cat (mg Γ) 21)), trivial⟩ ?_
  refine s_aload_n o dX11_atomEnds_7 rfl 1 rfl ?_
  refine s_tga (x := 41) o hT tf_pileNodes ta_pileNodes (lw_all_tbl q2541) dX11_atomEnds_8 ?_
  refine s_iload_n o dX11_atomEnds_11 rfl 0 rfl ?_
  refine r_tiald o hT tr_pileNodes (w32_R _) dX11_atomEnds_12 (fun v2 hv2 => ?_)
  refine r_istore_n o dX11_atomEnds_13 rfl rfl ⟨(Nat.ne_of_beq_eq_false rfl), (fun _ => rfl), ⟨(Nat.ne_of_beq_eq_false rfl), (fun _ => (vA_cat (mg Γ) 21)), trivial⟩⟩ ?_
  refine s_aload_n o dX11_atomEnds_14 rfl 2 rfl ?_
  refine s_tga (x := 43) o hT tf_pileCounts ta_pileCounts (lw_all_tbl q2543) dX11_atomEnds_15 ?_
  refine s_iload_n o dX11_atomEnds_18 rfl 1 rfl ?_
  refine s_dup2 o dX11_atomEnds_19 rfl (vA_cat (mg Γ) 43) ?_
  refine r_tiald o hT tr_pileCounts (w32_R _) dX11_atomEnds_20 (fun v3 hv3 => ?_)
  refine s_iconst o dX11_atomEnds_21 ?_
  refine s_iadd o dX11_atomEnds_22 ?_
  refine r_tiast o hT tr_pileCounts (w32_R _) (w32_R _) dX11_atomEnds_23 ?_
  refine s_aload_n o dX11_atomEnds_24 rfl 2 rfl ?_
  refine s_tga (x := 43) o hT tf_pileCounts ta_pileCounts (lw_all_tbl q2543) dX11_atomEnds_25 ?_
  refine s_iload_n o dX11_atomEnds_28 rfl 1 rfl ?_
  refine r_tiald o hT tr_pileCounts (w32_R _) dX11_atomEnds_29 (fun v4 hv4 => ?_)
  refine r_istore_n o dX11_atomEnds_30 rfl rfl ⟨(Nat.ne_of_beq_eq_false rfl), (fun _ => rfl), ⟨(Nat.ne_of_beq_eq_false rfl), (fun _ => rfl), ⟨(Nat.ne_of_beq_eq_false rfl), (fun _ => (vA_cat (mg Γ) 21)), trivial⟩⟩⟩ ?_
  refine s_aload_n o dX11_atomEnds_31 rfl 3 rfl ?_
  refine s_tga (x := 40) o hT tf_pileKinds ta_pileKinds (lw_all_tbl q2540) dX11_atomEnds_32 ?_
  refine s_iload_n o dX11_atomEnds_35 rfl 2 rfl ?_
  refine r_tiald o hT tr_pileKinds (w32_R _) dX11_atomEnds_36 (fun v5 hv5 => ?_)
  refine s_bipush o dX11_atomEnds_37 rfl ?_
  refine s_icmp_ne (tgt := 126) o dX11_atomEnds_39 (by decide) hv5 (r32 rfl) ?_ ?_
  · refine s_iload_n o dX11_atomEnds_126 rfl 1 rfl ?_
    refine s_if_lt (tgt := 139) o dX11_atomEnds_127 (by decide) hv2 ?_ ?_
    · refine r_to [(0, vA (mg Γ) 21), (1, vI (w32 (v1 - 1))), (2, vI v2), (3, vI v4)] [3, 2, 1, 0] rfl ?_
      exact st_atomEnds_139 hT o (w32 (v1 - 1)) v2 v4 (w32_R _) hv2 hv4
    · refine s_aload_n o dX11_atomEnds_130 rfl 3 rfl ?_
      refine s_iload_n o dX11_atomEnds_131 rfl 1 rfl ?_
      refine s_aload_n o dX11_atomEnds_132 rfl 3 rfl ?_
      refine s_cv (d := d + 6) (C := "LazyForgeModel") (As := []) (st := [vI v2, vA (mg Γ) 21]) o (st_taken (mg Γ) (d + 6) h hT) mw_X11_taken rfl (Or.inl (lw_all_tbl q3075)) (lw_all_tbl qs89) (lw_all_tbl q3077) (fun t => rc_t o hT t) (wt_I (wt_A wt_0)) rfl dX11_atomEnds_133 rfl (rs := fun r => [vI r, vI v2, vA (mg Γ) 21]) (fun _ => rfl) (fun v6 hv6 => ?_)
      refine s_cv (d := d + 6) (C := "LazyForgeModel") (As := [vI v2, vI v6]) (st := []) o (st_append (mg Γ) (d + 6) h hT v2 v6 hv2 (hv6 _ rfl)) mw_X11_append rfl (Or.inl (lw_all_tbl q3039)) (lw_all_tbl qs80) (lw_all_tbl q3041) (fun t => rc_t o hT t) wt_0 rfl dX11_atomEnds_136 rfl (rs := fun _ => []) (fun _ => rfl) (fun _ _ => ?_)
      refine r_to [(0, vA (mg Γ) 21), (1, vI (w32 (v1 - 1))), (2, vI v2), (3, vI v4)] [3, 2, 1, 0] rfl ?_
      exact st_atomEnds_139 hT o (w32 (v1 - 1)) v2 v4 (w32_R _) hv2 hv4
  · refine s_aload_n o dX11_atomEnds_42 rfl 3 rfl ?_
    refine s_iload_n o dX11_atomEnds_43 rfl 1 rfl ?_
    refine s_aload_n o dX11_atomEnds_44 rfl 3 rfl ?_
    refine s_cv (d := d + 6) (C := "LazyForgeModel") (As := []) (st := [vI v2, vA (mg Γ) 21]) o (st_taken (mg Γ) (d + 6) h hT) mw_X11_taken rfl (Or.inl (lw_all_tbl q3075)) (lw_all_tbl qs89) (lw_all_tbl q3077) (fun t => rc_t o hT t) (wt_I (wt_A wt_0)) rfl dX11_atomEnds_45 rfl (rs := fun r => [vI r, vI v2, vA (mg Γ) 21]) (fun _ => rfl) (fun v7 hv7 => ?_)
    refine s_cv (d := d + 6) (C := "LazyForgeModel") (As := [vI v2, vI v7]) (st := []) o (st_append (mg Γ) (d + 6) h hT v2 v7 hv2 (hv7 _ rfl)) mw_X11_append rfl (Or.inl (lw_all_tbl q3039)) (lw_all_tbl qs80) (lw_all_tbl q3041) (fun t => rc_t o hT t) wt_0 rfl dX11_atomEnds_48 rfl (rs := fun _ => []) (fun _ => rfl) (fun _ _ => ?_)
    refine s_iload_n o dX11_atomEnds_51 rfl 0 rfl ?_
    refine s_aload_n o dX11_atomEnds_52 rfl 3 rfl ?_
    refine s_tga (x := 39) o hT tf_fieldCounts ta_fieldCounts (lw_all_tbl q2537) dX11_atomEnds_53 ?_
    refine s_aload_n o dX11_atomEnds_56 rfl 3 rfl ?_
    refine s_tga (x := 29) o hT tf_values ta_values (lw_all_tbl q2522) dX11_atomEnds_57 ?_
    refine s_iload_n o dX11_atomEnds_60 rfl 1 rfl ?_
    refine r_tiald o hT tr_values hv2 dX11_atomEnds_61 (fun v8 hv8 => ?_)
    refine r_tiald o hT tr_fieldCounts hv8 dX11_atomEnds_62 (fun v9 hv9 => ?_)
    refine s_icmp_ge (tgt := 91) o dX11_atomEnds_63 (by decide) hv4 hv9 ?_ ?_
    · refine s_aload_n o dX11_atomEnds_91 rfl 3 rfl ?_
      refine s_cv (d := d + 6) (C := "LazyForgeModel") (As := []) (st := []) o (st_isAtom (mg Γ) (d + 5) h hT) mw_X11_isAtom rfl (Or.inl (lw_all_tbl q3059)) (lw_all_tbl qs85) (lw_all_tbl q3061) (fun t => rc_t o hT t) wt_0 rfl dX11_atomEnds_92 rfl (rs := fun r => [vI r]) (fun _ => rfl) (fun v10 hv10 => ?_)
      refine s_if_eq (tgt := 105) o dX11_atomEnds_95 (by decide) (rZ (hv10 _ rfl)) ?_ ?_
      · refine s_aload_n o dX11_atomEnds_105 rfl 3 rfl ?_
        refine s_dup o dX11_atomEnds_106 (vA_cat (mg Γ) 21) ?_
        refine r_tgf vI rfl o hT tf_piled tj_piled (lw_all_tbl q2539) dX11_atomEnds_107 (fun v11 hv11 => ?_)
        refine s_iconst o dX11_atomEnds_110 ?_
        refine s_isub o dX11_atomEnds_111 ?_
        refine r_tpf vI rfl o hT tf_piled tj_piled (lw_all_tbl q2539) dX11_atomEnds_112 (w32_R _) ty_int ?_
        refine s_aload_n o dX11_atomEnds_115 rfl 3 rfl ?_
        refine s_iload_n o dX11_atomEnds_116 rfl 1 rfl ?_
        refine s_cv (d := d + 6) (C := "LazyForgeModel") (As := [vI v2]) (st := []) o (st_operand (mg Γ) (d + 6) h hT v2 hv2) mw_X11_operand rfl (Or.inl (lw_all_tbl q3067)) (lw_all_tbl qs87) (lw_all_tbl q3069) (fun t => rc_t o hT t) wt_0 rfl dX11_atomEnds_117 rfl (rs := fun _ => []) (fun _ => rfl) (fun _ _ => ?_)
        refine s_aload_n o dX11_atomEnds_120 rfl 3 rfl ?_
        refine s_iconst o dX11_atomEnds_121 ?_
        refine r_tpf vI rfl o hT tf_isApplied tj_isApplied (lw_all_tbl q2548) dX11_atomEnds_122 (Or.inr rfl) ty_boolean ?_
        exact s_vret o rfl dX11_atomEnds_125 (fun _ hh => hh)
      · refine s_aload_n o dX11_atomEnds_98 rfl 3 rfl ?_
        refine s_cv (d := d + 6) (C := "LazyForgeModel") (As := []) (st := []) o (st_wrong (mg Γ) (d + 5) h hT) mw_X11_wrong rfl (Or.inl (lw_all_tbl q2983)) (lw_all_tbl qs66) (lw_all_tbl q2985) (fun t => rc_t o hT t) wt_0 rfl dX11_atomEnds_99 rfl (rs := fun _ => []) (fun _ => rfl) (fun _ _ => ?_)
        refine s_goto (tgt := 125) o dX11_atomEnds_102 (by decide) ?_
        exact s_vret o rfl dX11_atomEnds_125 (fun _ hh => hh)
    · refine s_aload_n o dX11_atomEnds_66 rfl 3 rfl ?_
      refine s_aload_n o dX11_atomEnds_67 rfl 3 rfl ?_
      refine s_iload_n o dX11_atomEnds_68 rfl 2 rfl ?_
      refine s_cv (d := d + 6) (C := "LazyForgeModel") (As := [vI (w32 (v1 - 1))]) (st := [vA (mg Γ) 21]) o (st_field (mg Γ) d h hT (w32 (v1 - 1)) (w32_R _)) mw_X11_field rfl (Or.inl (lw_all_tbl q3047)) (lw_all_tbl qs82) (lw_all_tbl q3049) (fun t => rc_t o hT t) (wt_A wt_0) rfl dX11_atomEnds_69 rfl (rs := fun r => [vI r, vA (mg Γ) 21]) (fun _ => rfl) (fun v12 hv12 => ?_)
      refine s_if_ne (tgt := 79) o dX11_atomEnds_72 (by decide) (rZ (hv12 _ rfl)) ?_ ?_
      · refine s_iconst o dX11_atomEnds_79 ?_
        refine r_to [(0, vA (mg Γ) 21)] [3] rfl ?_
        exact st_atomEnds_80 hT o 0 (Or.inl rfl)
      · refine s_iconst o dX11_atomEnds_75 ?_
        refine s_goto (tgt := 80) o dX11_atomEnds_76 (by decide) ?_
        refine r_to [(0, vA (mg Γ) 21)] [3] rfl ?_
        exact st_atomEnds_80 hT o 1 (Or.inr rfl)
theorem dX11_endBinding_0 : decode cX11_endBinding 0 = .ok (.aload_n 0, 1) := by decide +kernel
theorem dX11_endBinding_1 : decode cX11_endBinding 1 = .ok (.getfield 19, 3) := by decide +kernel
theorem dX11_endBinding_4 : decode cX11_endBinding 4 = .ok (.iload_n 1, 1) := by decide +kernel
theorem dX11_endBinding_5 : decode cX11_endBinding 5 = .ok (.aload_n 0, 1) := by decide +kernel
theorem dX11_endBinding_6 : decode cX11_endBinding 6 = .ok (.invokevirtual 420, 3) := by decide +kernel
theorem dX11_endBinding_9 : decode cX11_endBinding 9 = .ok (.iastore, 1) := by decide +kernel
theorem dX11_endBinding_10 : decode cX11_endBinding 10 = .ok (.aload_n 0, 1) := by decide +kernel
theorem dX11_endBinding_11 : decode cX11_endBinding 11 = .ok (.dup, 1) := by decide +kernel
theorem dX11_endBinding_12 : decode cX11_endBinding 12 = .ok (.getfield 342, 3) := by decide +kernel
theorem dX11_endBinding_15 : decode cX11_endBinding 15 = .ok (.iconst 1, 1) := by decide +kernel
theorem dX11_endBinding_16 : decode cX11_endBinding 16 = .ok (.isub, 1) := by decide +kernel
theorem dX11_endBinding_17 : decode cX11_endBinding 17 = .ok (.putfield 342, 3) := by decide +kernel
theorem dX11_endBinding_20 : decode cX11_endBinding 20 = .ok (.aload_n 0, 1) := by decide +kernel
theorem dX11_endBinding_21 : decode cX11_endBinding 21 = .ok (.getfield 68, 3) := by decide +kernel
theorem dX11_endBinding_24 : decode cX11_endBinding 24 = .ok (.aload_n 0, 1) := by decide +kernel
theorem dX11_endBinding_25 : decode cX11_endBinding 25 = .ok (.getfield 342, 3) := by decide +kernel
theorem dX11_endBinding_28 : decode cX11_endBinding 28 = .ok (.iconst 1, 1) := by decide +kernel
theorem dX11_endBinding_29 : decode cX11_endBinding 29 = .ok (.isub, 1) := by decide +kernel
theorem dX11_endBinding_30 : decode cX11_endBinding 30 = .ok (.iaload, 1) := by decide +kernel
theorem dX11_endBinding_31 : decode cX11_endBinding 31 = .ok (.istore_n 2, 1) := by decide +kernel
theorem dX11_endBinding_32 : decode cX11_endBinding 32 = .ok (.aload_n 0, 1) := by decide +kernel
theorem dX11_endBinding_33 : decode cX11_endBinding 33 = .ok (.bipush 44, 2) := by decide +kernel
theorem dX11_endBinding_35 : decode cX11_endBinding 35 = .ok (.invokevirtual 383, 3) := by decide +kernel
theorem dX11_endBinding_38 : decode cX11_endBinding 38 = .ok (.ifCond .eq 15, 3) := by decide +kernel
theorem dX11_endBinding_41 : decode cX11_endBinding 41 = .ok (.aload_n 0, 1) := by decide +kernel
theorem dX11_endBinding_42 : decode cX11_endBinding 42 = .ok (.invokevirtual 321, 3) := by decide +kernel
theorem dX11_endBinding_45 : decode cX11_endBinding 45 = .ok (.aload_n 0, 1) := by decide +kernel
theorem dX11_endBinding_46 : decode cX11_endBinding 46 = .ok (.iload_n 2, 1) := by decide +kernel
theorem dX11_endBinding_47 : decode cX11_endBinding 47 = .ok (.invokevirtual 376, 3) := by decide +kernel
theorem dX11_endBinding_50 : decode cX11_endBinding 50 = .ok (.goto 31, 3) := by decide +kernel
theorem dX11_endBinding_53 : decode cX11_endBinding 53 = .ok (.aload_n 0, 1) := by decide +kernel
theorem dX11_endBinding_54 : decode cX11_endBinding 54 = .ok (.aload_n 0, 1) := by decide +kernel
theorem dX11_endBinding_55 : decode cX11_endBinding 55 = .ok (.getfield 286, 3) := by decide +kernel
theorem dX11_endBinding_58 : decode cX11_endBinding 58 = .ok (.bipush 12, 2) := by decide +kernel
theorem dX11_endBinding_60 : decode cX11_endBinding 60 = .ok (.if_icmp .ne 7, 3) := by decide +kernel
theorem dX11_endBinding_63 : decode cX11_endBinding 63 = .ok (.iconst 1, 1) := by decide +kernel
theorem dX11_endBinding_64 : decode cX11_endBinding 64 = .ok (.goto 4, 3) := by decide +kernel
theorem dX11_endBinding_67 : decode cX11_endBinding 67 = .ok (.iconst 0, 1) := by decide +kernel
theorem dX11_endBinding_68 : decode cX11_endBinding 68 = .ok (.invokevirtual 359, 3) := by decide +kernel
theorem dX11_endBinding_71 : decode cX11_endBinding 71 = .ok (.aload_n 0, 1) := by decide +kernel
theorem dX11_endBinding_72 : decode cX11_endBinding 72 = .ok (.iconst 1, 1) := by decide +kernel
theorem dX11_endBinding_73 : decode cX11_endBinding 73 = .ok (.putfield 389, 3) := by decide +kernel
theorem dX11_endBinding_76 : decode cX11_endBinding 76 = .ok (.aload_n 0, 1) := by decide +kernel
theorem dX11_endBinding_77 : decode cX11_endBinding 77 = .ok (.iconst 1, 1) := by decide +kernel
theorem dX11_endBinding_78 : decode cX11_endBinding 78 = .ok (.putfield 393, 3) := by decide +kernel
theorem dX11_endBinding_81 : decode cX11_endBinding 81 = .ok (.return_, 1) := by decide +kernel
theorem mw_X11_endBinding : MW yX11_endBinding (Cond.code yX11_endBinding cX11_endBinding 3 (Option.none : Option Jvm.ClassFile.FieldType)) cX11_endBinding 3 (Option.none : Option Jvm.ClassFile.FieldType) 1 := ⟨rfl, ⟨(lw_all_tbl q3097), rfl, (lw_all_tbl q173)⟩, rfl, ⟨by decide, by decide⟩, by decide +kernel⟩
noncomputable def t_endBinding_68  (k0 : Int) : Mo TS Int :=
  bnd (t_accept k0) fun _ =>
  bnd (ss 43 1) fun _ =>
  bnd (ss 42 1) fun _ =>
  pr 0
theorem st_endBinding_68 {Γ : Gm} {h : CH} {d : Nat} (hT : HT h) (o : Ok Γ "LazyForgeModel" cX11_endBinding 3 (Option.none : Option Jvm.ClassFile.FieldType) (d + 7))   (k0 : Int) (hk0 : rg .boolean k0) : Sx Γ (fun t => (h, t)) (fun a s => mt Γ = (0, a, ((h, s) : Wd))) 68 [(0, vA (mg Γ) 21)] [vI k0, vA (mg Γ) 21] (t_endBinding_68 k0) := by
  unfold t_endBinding_68
  refine s_cv (d := d + 6) (C := "LazyForgeModel") (As := [vI k0]) (st := []) o (st_accept (mg Γ) (d + 2) h hT k0 hk0) mw_X11_accept rfl (Or.inl (lw_all_tbl q2979)) (lw_all_tbl qs65) (lw_all_tbl q2981) (fun t => rc_t o hT t) wt_0 rfl dX11_endBinding_68 rfl (rs := fun _ => []) (fun _ => rfl) (fun _ _ => ?_)
  refine s_aload_n o dX11_endBinding_71 rfl 0 rfl ?_
  refine s_iconst o dX11_endBinding_72 ?_
  refine r_tpf vI rfl o hT tf_wants tj_wants (lw_all_tbl q2547) dX11_endBinding_73 (Or.inr rfl) ty_boolean ?_
  refine s_aload_n o dX11_endBinding_76 rfl 0 rfl ?_
  refine s_iconst o dX11_endBinding_77 ?_
  refine r_tpf vI rfl o hT tf_startsE tj_startsE (lw_all_tbl q2546) dX11_endBinding_78 (Or.inr rfl) ty_boolean ?_
  exact s_vret o rfl dX11_endBinding_81 (fun _ hh => hh)
noncomputable def t_endBinding (l1 : Int) : Mo TS Int :=
  bnd (t_taken) fun v1 =>
  bnd (wr 14 3200 l1 v1) fun _ =>
  bnd (gs 35) fun v2 =>
  bnd (ss 35 (w32 (v2 - 1))) fun _ =>
  bnd (gs 35) fun v3 =>
  bnd (rd 37 3200 (w32 (v3 - 1))) fun v4 =>
  bnd (t_isSign 44) fun v5 =>
  if v5 = 0 then
    bnd (gs 6) fun v6 =>
    if ¬ v6 = 12 then
      t_endBinding_68 0
    else
      t_endBinding_68 1
  else
    bnd (t_next) fun _ =>
    bnd (t_binding v4) fun _ =>
    pr 0
theorem st_endBinding (g : gC) (d : Nat) (h : CH) (hT : HT h) (l1 : Int) (hl1 : R32 l1) : SF g yX11_endBinding (Cond.code yX11_endBinding cX11_endBinding 3 (Option.none : Option Jvm.ClassFile.FieldType)) (Option.none : Option Jvm.ClassFile.FieldType) (d + 7) [vA g 21, vI l1] (fun t => (h, t)) (t_endBinding l1) := by
  refine SF.of (lv := [(0, vA g 21), (1, vI l1)]) (by decide) (wt_A (wt_I wt_0)) rfl (by simp only [la_A, la_I, la_J, la_0]) (fun Γ hg hnm o => ?_)
  subst hg
  have o : Ok Γ "LazyForgeModel" cX11_endBinding 3 (Option.none : Option Jvm.ClassFile.FieldType) (d + 7) := o
  unfold t_endBinding
  refine s_aload_n o dX11_endBinding_0 rfl 0 rfl ?_
  refine s_tga (x := 25) o hT tf_firsts ta_firsts (lw_all_tbl q2518) dX11_endBinding_1 ?_
  refine s_iload_n o dX11_endBinding_4 rfl 1 rfl ?_
  refine s_aload_n o dX11_endBinding_5 rfl 0 rfl ?_
  refine s_cv (d := d + 6) (C := "LazyForgeModel") (As := []) (st := [vI l1, vA (mg Γ) 25]) o (st_taken (mg Γ) (d + 6) h hT) mw_X11_taken rfl (Or.inl (lw_all_tbl q3075)) (lw_all_tbl qs89) (lw_all_tbl q3077) (fun t => rc_t o hT t) (wt_I (wt_A wt_0)) rfl dX11_endBinding_6 rfl (rs := fun r => [vI r, vI l1, vA (mg Γ) 25]) (fun _ => rfl) (fun v1 hv1 => ?_)
  refine r_tiast o hT tr_firsts hl1 (hv1 _ rfl) dX11_endBinding_9 ?_
  refine s_aload_n o dX11_endBinding_10 rfl 0 rfl ?_
  refine s_dup o dX11_endBinding_11 (vA_cat (mg Γ) 21) ?_
  refine r_tgf vI rfl o hT tf_piled tj_piled (lw_all_tbl q2539) dX11_endBinding_12 (fun v2 hv2 => ?_)
  refine s_iconst o dX11_endBinding_15 ?_
  refine s_isub o dX11_endBinding_16 ?_
  refine r_tpf vI rfl o hT tf_piled tj_piled (lw_all_tbl q2539) dX11_endBinding_17 (w32_R _) ty_int ?_
  refine s_aload_n o dX11_endBinding_20 rfl 0 rfl ?_
  refine s_tga (x := 41) o hT tf_pileNodes ta_pileNodes (lw_all_tbl q2541) dX11_endBinding_21 ?_
  refine s_aload_n o dX11_endBinding_24 rfl 0 rfl ?_
  refine r_tgf vI rfl o hT tf_piled tj_piled (lw_all_tbl q2539) dX11_endBinding_25 (fun v3 hv3 => ?_)
  refine s_iconst o dX11_endBinding_28 ?_
  refine s_isub o dX11_endBinding_29 ?_
  refine r_tiald o hT tr_pileNodes (w32_R _) dX11_endBinding_30 (fun v4 hv4 => ?_)
  refine r_istore_n o dX11_endBinding_31 rfl rfl ⟨(Nat.ne_of_beq_eq_false rfl), (fun _ => (vA_cat (mg Γ) 21)), ⟨(Nat.ne_of_beq_eq_false rfl), (fun _ => rfl), trivial⟩⟩ ?_
  refine s_aload_n o dX11_endBinding_32 rfl 1 rfl ?_
  refine s_bipush o dX11_endBinding_33 rfl ?_
  refine s_cv (d := d + 6) (C := "LazyForgeModel") (As := [vI 44]) (st := []) o (st_isSign (mg Γ) (d + 6) h hT 44 (r32 rfl)) mw_X11_isSign rfl (Or.inl (lw_all_tbl q2987)) (lw_all_tbl qs67) (lw_all_tbl q2989) (fun t => rc_t o hT t) wt_0 rfl dX11_endBinding_35 rfl (rs := fun r => [vI r]) (fun _ => rfl) (fun v5 hv5 => ?_)
  refine s_if_eq (tgt := 53) o dX11_endBinding_38 (by decide) (rZ (hv5 _ rfl)) ?_ ?_
  · refine s_aload_n o dX11_endBinding_53 rfl 1 rfl ?_
    refine s_aload_n o dX11_endBinding_54 rfl 1 rfl ?_
    refine r_tgf vI rfl o hT tf_word tj_word (lw_all_tbl q2510) dX11_endBinding_55 (fun v6 hv6 => ?_)
    refine s_bipush o dX11_endBinding_58 rfl ?_
    refine s_icmp_ne (tgt := 67) o dX11_endBinding_60 (by decide) hv6 (r32 rfl) ?_ ?_
    · refine s_iconst o dX11_endBinding_67 ?_
      refine r_to [(0, vA (mg Γ) 21)] [1] rfl ?_
      exact st_endBinding_68 hT o 0 (Or.inl rfl)
    · refine s_iconst o dX11_endBinding_63 ?_
      refine s_goto (tgt := 68) o dX11_endBinding_64 (by decide) ?_
      refine r_to [(0, vA (mg Γ) 21)] [1] rfl ?_
      exact st_endBinding_68 hT o 1 (Or.inr rfl)
  · refine s_aload_n o dX11_endBinding_41 rfl 1 rfl ?_
    refine s_cv (d := d + 6) (C := "LazyForgeModel") (As := []) (st := []) o (st_next (mg Γ) (d + 3) h hT) mw_X11_next rfl (Or.inl (lw_all_tbl q2932)) (lw_all_tbl qs57) (lw_all_tbl q2934) (fun t => rc_t o hT t) wt_0 rfl dX11_endBinding_42 rfl (rs := fun _ => []) (fun _ => rfl) (fun _ _ => ?_)
    refine s_aload_n o dX11_endBinding_45 rfl 1 rfl ?_
    refine s_iload_n o dX11_endBinding_46 rfl 0 rfl ?_
    refine s_cv (d := d + 6) (C := "LazyForgeModel") (As := [vI v4]) (st := []) o (st_binding (mg Γ) d h hT v4 hv4) mw_X11_binding rfl (Or.inl (lw_all_tbl q3035)) (lw_all_tbl qs79) (lw_all_tbl q3037) (fun t => rc_t o hT t) wt_0 rfl dX11_endBinding_47 rfl (rs := fun _ => []) (fun _ => rfl) (fun _ _ => ?_)
    refine s_goto (tgt := 81) o dX11_endBinding_50 (by decide) ?_
    exact s_vret o rfl dX11_endBinding_81 (fun _ hh => hh)
theorem dX11_workPart_0 : decode cX11_workPart 0 = .ok (.aload_n 0, 1) := by decide +kernel
theorem dX11_workPart_1 : decode cX11_workPart 1 = .ok (.getfield 617, 3) := by decide +kernel
theorem dX11_workPart_4 : decode cX11_workPart 4 = .ok (.istore_n 1, 1) := by decide +kernel
theorem dX11_workPart_5 : decode cX11_workPart 5 = .ok (.aload_n 0, 1) := by decide +kernel
theorem dX11_workPart_6 : decode cX11_workPart 6 = .ok (.getfield 119, 3) := by decide +kernel
theorem dX11_workPart_9 : decode cX11_workPart 9 = .ok (.iload_n 1, 1) := by decide +kernel
theorem dX11_workPart_10 : decode cX11_workPart 10 = .ok (.iaload, 1) := by decide +kernel
theorem dX11_workPart_11 : decode cX11_workPart 11 = .ok (.tableswitch 234 0 13 #[165, 234, 234, 145, 234, 125, 234, 113, 234, 92, 92, 104, 92, 69], 69) := by decide +kernel
theorem dX11_workPart_80 : decode cX11_workPart 80 = .ok (.aload_n 0, 1) := by decide +kernel
theorem dX11_workPart_81 : decode cX11_workPart 81 = .ok (.aload_n 0, 1) := by decide +kernel
theorem dX11_workPart_82 : decode cX11_workPart 82 = .ok (.getfield 233, 3) := by decide +kernel
theorem dX11_workPart_85 : decode cX11_workPart 85 = .ok (.aload_n 0, 1) := by decide +kernel
theorem dX11_workPart_86 : decode cX11_workPart 86 = .ok (.getfield 614, 3) := by decide +kernel
theorem dX11_workPart_89 : decode cX11_workPart 89 = .ok (.aload_n 0, 1) := by decide +kernel
theorem dX11_workPart_90 : decode cX11_workPart 90 = .ok (.getfield 122, 3) := by decide +kernel
theorem dX11_workPart_93 : decode cX11_workPart 93 = .ok (.iload_n 1, 1) := by decide +kernel
theorem dX11_workPart_94 : decode cX11_workPart 94 = .ok (.iaload, 1) := by decide +kernel
theorem dX11_workPart_95 : decode cX11_workPart 95 = .ok (.iadd, 1) := by decide +kernel
theorem dX11_workPart_96 : decode cX11_workPart 96 = .ok (.laload, 1) := by decide +kernel
theorem dX11_workPart_97 : decode cX11_workPart 97 = .ok (.invokevirtual 700, 3) := by decide +kernel
theorem dX11_workPart_100 : decode cX11_workPart 100 = .ok (.goto 150, 3) := by decide +kernel
theorem dX11_workPart_103 : decode cX11_workPart 103 = .ok (.aload_n 0, 1) := by decide +kernel
theorem dX11_workPart_104 : decode cX11_workPart 104 = .ok (.aload_n 0, 1) := by decide +kernel
theorem dX11_workPart_105 : decode cX11_workPart 105 = .ok (.iload_n 1, 1) := by decide +kernel
theorem dX11_workPart_106 : decode cX11_workPart 106 = .ok (.invokevirtual 666, 3) := by decide +kernel
theorem dX11_workPart_109 : decode cX11_workPart 109 = .ok (.invokevirtual 700, 3) := by decide +kernel
theorem dX11_workPart_112 : decode cX11_workPart 112 = .ok (.goto 138, 3) := by decide +kernel
theorem dX11_workPart_115 : decode cX11_workPart 115 = .ok (.aload_n 0, 1) := by decide +kernel
theorem dX11_workPart_116 : decode cX11_workPart 116 = .ok (.iconst 2, 1) := by decide +kernel
theorem dX11_workPart_117 : decode cX11_workPart 117 = .ok (.iconst 5, 1) := by decide +kernel
theorem dX11_workPart_118 : decode cX11_workPart 118 = .ok (.invokevirtual 629, 3) := by decide +kernel
theorem dX11_workPart_121 : decode cX11_workPart 121 = .ok (.goto 129, 3) := by decide +kernel
theorem dX11_workPart_124 : decode cX11_workPart 124 = .ok (.aload_n 0, 1) := by decide +kernel
theorem dX11_workPart_125 : decode cX11_workPart 125 = .ok (.aload_n 0, 1) := by decide +kernel
theorem dX11_workPart_126 : decode cX11_workPart 126 = .ok (.iload_n 1, 1) := by decide +kernel
theorem dX11_workPart_127 : decode cX11_workPart 127 = .ok (.invokevirtual 703, 3) := by decide +kernel
theorem dX11_workPart_130 : decode cX11_workPart 130 = .ok (.invokevirtual 691, 3) := by decide +kernel
theorem dX11_workPart_133 : decode cX11_workPart 133 = .ok (.goto 117, 3) := by decide +kernel
theorem dX11_workPart_136 : decode cX11_workPart 136 = .ok (.aload_n 0, 1) := by decide +kernel
theorem dX11_workPart_137 : decode cX11_workPart 137 = .ok (.iconst 2, 1) := by decide +kernel
theorem dX11_workPart_138 : decode cX11_workPart 138 = .ok (.iload_n 1, 1) := by decide +kernel
theorem dX11_workPart_139 : decode cX11_workPart 139 = .ok (.iconst 0, 1) := by decide +kernel
theorem dX11_workPart_140 : decode cX11_workPart 140 = .ok (.invokevirtual 685, 3) := by decide +kernel
theorem dX11_workPart_143 : decode cX11_workPart 143 = .ok (.aload_n 0, 1) := by decide +kernel
theorem dX11_workPart_144 : decode cX11_workPart 144 = .ok (.aload_n 0, 1) := by decide +kernel
theorem dX11_workPart_145 : decode cX11_workPart 145 = .ok (.iload_n 1, 1) := by decide +kernel
theorem dX11_workPart_146 : decode cX11_workPart 146 = .ok (.iconst 0, 1) := by decide +kernel
theorem dX11_workPart_147 : decode cX11_workPart 147 = .ok (.invokevirtual 545, 3) := by decide +kernel
theorem dX11_workPart_150 : decode cX11_workPart 150 = .ok (.invokevirtual 697, 3) := by decide +kernel
theorem dX11_workPart_153 : decode cX11_workPart 153 = .ok (.goto 97, 3) := by decide +kernel
theorem dX11_workPart_156 : decode cX11_workPart 156 = .ok (.aload_n 0, 1) := by decide +kernel
theorem dX11_workPart_157 : decode cX11_workPart 157 = .ok (.iconst 4, 1) := by decide +kernel
theorem dX11_workPart_158 : decode cX11_workPart 158 = .ok (.iload_n 1, 1) := by decide +kernel
theorem dX11_workPart_159 : decode cX11_workPart 159 = .ok (.iconst 0, 1) := by decide +kernel
theorem dX11_workPart_160 : decode cX11_workPart 160 = .ok (.invokevirtual 685, 3) := by decide +kernel
theorem dX11_workPart_163 : decode cX11_workPart 163 = .ok (.aload_n 0, 1) := by decide +kernel
theorem dX11_workPart_164 : decode cX11_workPart 164 = .ok (.aload_n 0, 1) := by decide +kernel
theorem dX11_workPart_165 : decode cX11_workPart 165 = .ok (.iload_n 1, 1) := by decide +kernel
theorem dX11_workPart_166 : decode cX11_workPart 166 = .ok (.iconst 0, 1) := by decide +kernel
theorem dX11_workPart_167 : decode cX11_workPart 167 = .ok (.invokevirtual 545, 3) := by decide +kernel
theorem dX11_workPart_170 : decode cX11_workPart 170 = .ok (.invokevirtual 697, 3) := by decide +kernel
theorem dX11_workPart_173 : decode cX11_workPart 173 = .ok (.goto 77, 3) := by decide +kernel
theorem dX11_workPart_176 : decode cX11_workPart 176 = .ok (.aload_n 0, 1) := by decide +kernel
theorem dX11_workPart_177 : decode cX11_workPart 177 = .ok (.getfield 706, 3) := by decide +kernel
theorem dX11_workPart_180 : decode cX11_workPart 180 = .ok (.ifCond .eq 42, 3) := by decide +kernel
theorem dX11_workPart_183 : decode cX11_workPart 183 = .ok (.aload_n 0, 1) := by decide +kernel
theorem dX11_workPart_184 : decode cX11_workPart 184 = .ok (.getfield 134, 3) := by decide +kernel
theorem dX11_workPart_187 : decode cX11_workPart 187 = .ok (.iload_n 1, 1) := by decide +kernel
theorem dX11_workPart_188 : decode cX11_workPart 188 = .ok (.baload, 1) := by decide +kernel
theorem dX11_workPart_189 : decode cX11_workPart 189 = .ok (.ifCond .eq 33, 3) := by decide +kernel
theorem dX11_workPart_192 : decode cX11_workPart 192 = .ok (.aload_n 0, 1) := by decide +kernel
theorem dX11_workPart_193 : decode cX11_workPart 193 = .ok (.dup, 1) := by decide +kernel
theorem dX11_workPart_194 : decode cX11_workPart 194 = .ok (.getfield 709, 3) := by decide +kernel
theorem dX11_workPart_197 : decode cX11_workPart 197 = .ok (.iconst 1, 1) := by decide +kernel
theorem dX11_workPart_198 : decode cX11_workPart 198 = .ok (.iadd, 1) := by decide +kernel
theorem dX11_workPart_199 : decode cX11_workPart 199 = .ok (.putfield 709, 3) := by decide +kernel
theorem dX11_workPart_202 : decode cX11_workPart 202 = .ok (.aload_n 0, 1) := by decide +kernel
theorem dX11_workPart_203 : decode cX11_workPart 203 = .ok (.iconst 5, 1) := by decide +kernel
theorem dX11_workPart_204 : decode cX11_workPart 204 = .ok (.iload_n 1, 1) := by decide +kernel
theorem dX11_workPart_205 : decode cX11_workPart 205 = .ok (.iconst 0, 1) := by decide +kernel
theorem dX11_workPart_206 : decode cX11_workPart 206 = .ok (.invokevirtual 685, 3) := by decide +kernel
theorem dX11_workPart_209 : decode cX11_workPart 209 = .ok (.aload_n 0, 1) := by decide +kernel
theorem dX11_workPart_210 : decode cX11_workPart 210 = .ok (.aload_n 0, 1) := by decide +kernel
theorem dX11_workPart_211 : decode cX11_workPart 211 = .ok (.iload_n 1, 1) := by decide +kernel
theorem dX11_workPart_212 : decode cX11_workPart 212 = .ok (.iconst 0, 1) := by decide +kernel
theorem dX11_workPart_213 : decode cX11_workPart 213 = .ok (.invokevirtual 545, 3) := by decide +kernel
theorem dX11_workPart_216 : decode cX11_workPart 216 = .ok (.invokevirtual 697, 3) := by decide +kernel
theorem dX11_workPart_219 : decode cX11_workPart 219 = .ok (.goto 31, 3) := by decide +kernel
theorem dX11_workPart_222 : decode cX11_workPart 222 = .ok (.aload_n 0, 1) := by decide +kernel
theorem dX11_workPart_223 : decode cX11_workPart 223 = .ok (.iload_n 1, 1) := by decide +kernel
theorem dX11_workPart_224 : decode cX11_workPart 224 = .ok (.invokevirtual 712, 3) := by decide +kernel
theorem dX11_workPart_227 : decode cX11_workPart 227 = .ok (.aload_n 0, 1) := by decide +kernel
theorem dX11_workPart_228 : decode cX11_workPart 228 = .ok (.aload_n 0, 1) := by decide +kernel
theorem dX11_workPart_229 : decode cX11_workPart 229 = .ok (.iload_n 1, 1) := by decide +kernel
theorem dX11_workPart_230 : decode cX11_workPart 230 = .ok (.aload_n 0, 1) := by decide +kernel
theorem dX11_workPart_231 : decode cX11_workPart 231 = .ok (.getfield 122, 3) := by decide +kernel
theorem dX11_workPart_234 : decode cX11_workPart 234 = .ok (.iload_n 1, 1) := by decide +kernel
theorem dX11_workPart_235 : decode cX11_workPart 235 = .ok (.iaload, 1) := by decide +kernel
theorem dX11_workPart_236 : decode cX11_workPart 236 = .ok (.invokevirtual 545, 3) := by decide +kernel
theorem dX11_workPart_239 : decode cX11_workPart 239 = .ok (.invokevirtual 697, 3) := by decide +kernel
theorem dX11_workPart_242 : decode cX11_workPart 242 = .ok (.goto 8, 3) := by decide +kernel
theorem dX11_workPart_245 : decode cX11_workPart 245 = .ok (.aload_n 0, 1) := by decide +kernel
theorem dX11_workPart_246 : decode cX11_workPart 246 = .ok (.iload_n 1, 1) := by decide +kernel
theorem dX11_workPart_247 : decode cX11_workPart 247 = .ok (.invokevirtual 715, 3) := by decide +kernel
theorem dX11_workPart_250 : decode cX11_workPart 250 = .ok (.return_, 1) := by decide +kernel
theorem mw_X11_workPart : MW yX11_workPart (Cond.code yX11_workPart cX11_workPart 2 (Option.none : Option Jvm.ClassFile.FieldType)) cX11_workPart 2 (Option.none : Option Jvm.ClassFile.FieldType) 0 := ⟨rfl, ⟨(lw_all_tbl q3335), rfl, (lw_all_tbl q173)⟩, rfl, ⟨by decide, by decide⟩, by decide +kernel⟩
noncomputable def t_workPart_222  (l1 : Int) : Mo TS Int :=
  bnd (t_keepBindings l1) fun _ =>
  bnd (rd 65 7000 l1) fun v1 =>
  bnd (t_child l1 v1) fun v2 =>
  bnd (t_evaluate v2) fun _ =>
  pr 0
theorem st_workPart_222 {Γ : Gm} {h : CH} {d : Nat} (hT : HT h) (o : Ok Γ "LazyForgeModel" cX11_workPart 2 (Option.none : Option Jvm.ClassFile.FieldType) (d + 7))   (l1 : Int) (hl1 : R32 l1) : Sx Γ (fun t => (h, t)) (fun a s => mt Γ = (0, a, ((h, s) : Wd))) 222 [(0, vA (mg Γ) 21), (1, vI l1)] [] (t_workPart_222 l1) := by
  unfold t_workPart_222
  refine s_aload_n o dX11_workPart_222 rfl 0 rfl ?_
  refine s_iload_n o dX11_workPart_223 rfl 1 rfl ?_
  refine s_cv (d := d + 6) (C := "LazyForgeModel") (As := [vI l1]) (st := []) o (st_keepBindings (mg Γ) (d + 2) h hT l1 hl1) mw_X11_keepBindings rfl (Or.inl (lw_all_tbl q3336)) (lw_all_tbl qs147) (lw_all_tbl q3338) (fun t => rc_t o hT t) wt_0 rfl dX11_workPart_224 rfl (rs := fun _ => []) (fun _ => rfl) (fun _ _ => ?_)
  refine s_aload_n o dX11_workPart_227 rfl 0 rfl ?_
  refine s_aload_n o dX11_workPart_228 rfl 0 rfl ?_
  refine s_iload_n o dX11_workPart_229 rfl 1 rfl ?_
  refine s_aload_n o dX11_workPart_230 rfl 0 rfl ?_
  refine s_tga (x := 59) o hT tf_liftValues ta_liftValues (lw_all_tbl q2569) dX11_workPart_231 ?_
  refine s_iload_n o dX11_workPart_234 rfl 1 rfl ?_
  refine r_tiald o hT tr_liftValues hl1 dX11_workPart_235 (fun v1 hv1 => ?_)
  refine s_cv (d := d + 6) (C := "LazyForgeModel") (As := [vI l1, vI v1]) (st := [vA (mg Γ) 21]) o (st_child (mg Γ) (d + 6) h hT l1 v1 hl1 hv1) mw_X11_child rfl (Or.inl (lw_all_tbl q3189)) (lw_all_tbl qs115) (lw_all_tbl q3191) (fun t => rc_t o hT t) (wt_A wt_0) rfl dX11_workPart_236 rfl (rs := fun r => [vI r, vA (mg Γ) 21]) (fun _ => rfl) (fun v2 hv2 => ?_)
  refine s_cv (d := d + 6) (C := "LazyForgeModel") (As := [vI v2]) (st := []) o (st_evaluate (mg Γ) (d + 6) h hT v2 (hv2 _ rfl)) mw_X11_evaluate rfl (Or.inl (lw_all_tbl q3272)) (lw_all_tbl qs132) (lw_all_tbl q3274) (fun t => rc_t o hT t) wt_0 rfl dX11_workPart_239 rfl (rs := fun _ => []) (fun _ => rfl) (fun _ _ => ?_)
  refine s_goto (tgt := 250) o dX11_workPart_242 (by decide) ?_
  exact s_vret o rfl dX11_workPart_250 (fun _ hh => hh)
noncomputable def t_workPart : Mo TS Int :=
  bnd (gs 125) fun v1 =>
  bnd (rd 64 7000 v1) fun v2 =>
  if v2 = 0 then
    bnd (gs 115) fun v4 =>
    if v4 = 0 then
      t_workPart_222 v1
    else
      bnd (rd 69 7000 v1) fun v5 =>
      if v5 = 0 then
        t_workPart_222 v1
      else
        bnd (gs 109) fun v6 =>
        bnd (ss 109 (w32 (v6 + 1))) fun _ =>
        bnd (t_waits 5 v1 0) fun _ =>
        bnd (t_child v1 0) fun v7 =>
        bnd (t_evaluate v7) fun _ =>
        pr 0
  else
    if v2 = 3 then
      bnd (t_waits 4 v1 0) fun _ =>
      bnd (t_child v1 0) fun v9 =>
      bnd (t_evaluate v9) fun _ =>
      pr 0
    else
      if v2 = 5 then
        bnd (t_waits 2 v1 0) fun _ =>
        bnd (t_child v1 0) fun v11 =>
        bnd (t_evaluate v11) fun _ =>
        pr 0
      else
        if v2 = 7 then
          bnd (t_keep v1) fun v13 =>
          bnd (t_gives v13) fun _ =>
          pr 0
        else
          if v2 = 9 then
            bnd (t_plain v1) fun v15 =>
            bnd (t_enter v15) fun _ =>
            pr 0
          else
            if v2 = 10 then
              bnd (t_plain v1) fun v17 =>
              bnd (t_enter v17) fun _ =>
              pr 0
            else
              if v2 = 11 then
                bnd (t_ends 2 5) fun _ =>
                pr 0
              else
                if v2 = 12 then
                  bnd (t_plain v1) fun v20 =>
                  bnd (t_enter v20) fun _ =>
                  pr 0
                else
                  if v2 = 13 then
                    bnd (gs 122) fun v22 =>
                    bnd (rd 65 7000 v1) fun v23 =>
                    bnd (rd 124 193000 (w32 (v22 + v23))) fun v24 =>
                    bnd (t_enter v24) fun _ =>
                    pr 0
                  else
                    bnd (t_workApplication v1) fun _ =>
                    pr 0
theorem st_workPart (g : gC) (d : Nat) (h : CH) (hT : HT h) : SF g yX11_workPart (Cond.code yX11_workPart cX11_workPart 2 (Option.none : Option Jvm.ClassFile.FieldType)) (Option.none : Option Jvm.ClassFile.FieldType) (d + 7) [vA g 21] (fun t => (h, t)) (t_workPart) := by
  refine SF.of (lv := [(0, vA g 21)]) (by decide) (wt_A wt_0) rfl (by simp only [la_A, la_I, la_J, la_0]) (fun Γ hg hnm o => ?_)
  subst hg
  have o : Ok Γ "LazyForgeModel" cX11_workPart 2 (Option.none : Option Jvm.ClassFile.FieldType) (d + 7) := o
  unfold t_workPart
  refine s_aload_n o dX11_workPart_0 rfl 0 rfl ?_
  refine r_tgf vI rfl o hT tf_current tj_current (lw_all_tbl q2629) dX11_workPart_1 (fun v1 hv1 => ?_)
  refine r_istore_n o dX11_workPart_4 rfl rfl ⟨(Nat.ne_of_beq_eq_false rfl), (fun _ => (vA_cat (mg Γ) 21)), trivial⟩ ?_
  refine s_aload_n o dX11_workPart_5 rfl 1 rfl ?_
  refine s_tga (x := 58) o hT tf_liftKinds ta_liftKinds (lw_all_tbl q2568) dX11_workPart_6 ?_
  refine s_iload_n o dX11_workPart_9 rfl 0 rfl ?_
  refine r_tiald o hT tr_liftKinds hv1 dX11_workPart_10 (fun v2 hv2 => ?_)
  refine s_case (P := True) (fun e2 => ?_) (fun e2 => ?_)
  · refine s_tabE o e2 dX11_workPart_11 (r32 rfl) rfl rfl (tgt := 176) (by decide) ?_
    refine s_aload_n o dX11_workPart_176 rfl 1 rfl ?_
    refine r_tgf vI rfl o hT tf_eager tj_eager (lw_all_tbl q2619) dX11_workPart_177 (fun v4 hv4 => ?_)
    refine s_if_eq (tgt := 222) o dX11_workPart_180 (by decide) (rZ hv4) ?_ ?_
    · refine r_to [(0, vA (mg Γ) 21), (1, vI v1)] [1, 0] rfl ?_
      exact st_workPart_222 hT o v1 hv1
    · refine s_aload_n o dX11_workPart_183 rfl 1 rfl ?_
      refine s_tga (x := 63) o hT tf_liftNeeds ta_liftNeeds (lw_all_tbl q2573) dX11_workPart_184 ?_
      refine s_iload_n o dX11_workPart_187 rfl 0 rfl ?_
      refine r_tzald o hT tr_liftNeeds hv1 dX11_workPart_188 (fun v5 hv5 => ?_)
      refine s_if_eq (tgt := 222) o dX11_workPart_189 (by decide) (rZ hv5) ?_ ?_
      · refine r_to [(0, vA (mg Γ) 21), (1, vI v1)] [1, 0] rfl ?_
        exact st_workPart_222 hT o v1 hv1
      · refine s_aload_n o dX11_workPart_192 rfl 1 rfl ?_
        refine s_dup o dX11_workPart_193 (vA_cat (mg Γ) 21) ?_
        refine r_tgf vI rfl o hT tf_atOnce tj_atOnce (lw_all_tbl q2613) dX11_workPart_194 (fun v6 hv6 => ?_)
        refine s_iconst o dX11_workPart_197 ?_
        refine s_iadd o dX11_workPart_198 ?_
        refine r_tpf vI rfl o hT tf_atOnce tj_atOnce (lw_all_tbl q2613) dX11_workPart_199 (w32_R _) ty_int ?_
        refine s_aload_n o dX11_workPart_202 rfl 1 rfl ?_
        refine s_iconst o dX11_workPart_203 ?_
        refine s_iload_n o dX11_workPart_204 rfl 0 rfl ?_
        refine s_iconst o dX11_workPart_205 ?_
        refine s_cv (d := d + 6) (C := "LazyForgeModel") (As := [vI 5, vI v1, vI 0]) (st := []) o (st_waits (mg Γ) (d + 6) h hT 5 v1 0 (r32 rfl) hv1 (r32 rfl)) mw_X11_waits rfl (Or.inl (lw_all_tbl q3264)) (lw_all_tbl qs130) (lw_all_tbl q3266) (fun t => rc_t o hT t) wt_0 rfl dX11_workPart_206 rfl (rs := fun _ => []) (fun _ => rfl) (fun _ _ => ?_)
        refine s_aload_n o dX11_workPart_209 rfl 1 rfl ?_
        refine s_aload_n o dX11_workPart_210 rfl 1 rfl ?_
        refine s_iload_n o dX11_workPart_211 rfl 0 rfl ?_
        refine s_iconst o dX11_workPart_212 ?_
        refine s_cv (d := d + 6) (C := "LazyForgeModel") (As := [vI v1, vI 0]) (st := [vA (mg Γ) 21]) o (st_child (mg Γ) (d + 6) h hT v1 0 hv1 (r32 rfl)) mw_X11_child rfl (Or.inl (lw_all_tbl q3189)) (lw_all_tbl qs115) (lw_all_tbl q3191) (fun t => rc_t o hT t) (wt_A wt_0) rfl dX11_workPart_213 rfl (rs := fun r => [vI r, vA (mg Γ) 21]) (fun _ => rfl) (fun v7 hv7 => ?_)
        refine s_cv (d := d + 6) (C := "LazyForgeModel") (As := [vI v7]) (st := []) o (st_evaluate (mg Γ) (d + 6) h hT v7 (hv7 _ rfl)) mw_X11_evaluate rfl (Or.inl (lw_all_tbl q3272)) (lw_all_tbl qs132) (lw_all_tbl q3274) (fun t => rc_t o hT t) wt_0 rfl dX11_workPart_216 rfl (rs := fun _ => []) (fun _ => rfl) (fun _ _ => ?_)
        refine s_goto (tgt := 250) o dX11_workPart_219 (by decide) ?_
        exact s_vret o rfl dX11_workPart_250 (fun _ hh => hh)
  · refine s_case (P := True) (fun e7 => ?_) (fun e7 => ?_)
    · refine s_tabE o e7 dX11_workPart_11 (r32 rfl) rfl rfl (tgt := 156) (by decide) ?_
      refine s_aload_n o dX11_workPart_156 rfl 1 rfl ?_
      refine s_iconst o dX11_workPart_157 ?_
      refine s_iload_n o dX11_workPart_158 rfl 0 rfl ?_
      refine s_iconst o dX11_workPart_159 ?_
      refine s_cv (d := d + 6) (C := "LazyForgeModel") (As := [vI 4, vI v1, vI 0]) (st := []) o (st_waits (mg Γ) (d + 6) h hT 4 v1 0 (r32 rfl) hv1 (r32 rfl)) mw_X11_waits rfl (Or.inl (lw_all_tbl q3264)) (lw_all_tbl qs130) (lw_all_tbl q3266) (fun t => rc_t o hT t) wt_0 rfl dX11_workPart_160 rfl (rs := fun _ => []) (fun _ => rfl) (fun _ _ => ?_)
      refine s_aload_n o dX11_workPart_163 rfl 1 rfl ?_
      refine s_aload_n o dX11_workPart_164 rfl 1 rfl ?_
      refine s_iload_n o dX11_workPart_165 rfl 0 rfl ?_
      refine s_iconst o dX11_workPart_166 ?_
      refine s_cv (d := d + 6) (C := "LazyForgeModel") (As := [vI v1, vI 0]) (st := [vA (mg Γ) 21]) o (st_child (mg Γ) (d + 6) h hT v1 0 hv1 (r32 rfl)) mw_X11_child rfl (Or.inl (lw_all_tbl q3189)) (lw_all_tbl qs115) (lw_all_tbl q3191) (fun t => rc_t o hT t) (wt_A wt_0) rfl dX11_workPart_167 rfl (rs := fun r => [vI r, vA (mg Γ) 21]) (fun _ => rfl) (fun v9 hv9 => ?_)
      refine s_cv (d := d + 6) (C := "LazyForgeModel") (As := [vI v9]) (st := []) o (st_evaluate (mg Γ) (d + 6) h hT v9 (hv9 _ rfl)) mw_X11_evaluate rfl (Or.inl (lw_all_tbl q3272)) (lw_all_tbl qs132) (lw_all_tbl q3274) (fun t => rc_t o hT t) wt_0 rfl dX11_workPart_170 rfl (rs := fun _ => []) (fun _ => rfl) (fun _ _ => ?_)
      refine s_goto (tgt := 250) o dX11_workPart_173 (by decide) ?_
      exact s_vret o rfl dX11_workPart_250 (fun _ hh => hh)
    · refine s_case (P := True) (fun e9 => ?_) (fun e9 => ?_)
      · refine s_tabE o e9 dX11_workPart_11 (r32 rfl) rfl rfl (tgt := 136) (by decide) ?_
        refine s_aload_n o dX11_workPart_136 rfl 1 rfl ?_
        refine s_iconst o dX11_workPart_137 ?_
        refine s_iload_n o dX11_workPart_138 rfl 0 rfl ?_
        refine s_iconst o dX11_workPart_139 ?_
        refine s_cv (d := d + 6) (C := "LazyForgeModel") (As := [vI 2, vI v1, vI 0]) (st := []) o (st_waits (mg Γ) (d + 6) h hT 2 v1 0 (r32 rfl) hv1 (r32 rfl)) mw_X11_waits rfl (Or.inl (lw_all_tbl q3264)) (lw_all_tbl qs130) (lw_all_tbl q3266) (fun t => rc_t o hT t) wt_0 rfl dX11_workPart_140 rfl (rs := fun _ => []) (fun _ => rfl) (fun _ _ => ?_)
        refine s_aload_n o dX11_workPart_143 rfl 1 rfl ?_
        refine s_aload_n o dX11_workPart_144 rfl 1 rfl ?_
        refine s_iload_n o dX11_workPart_145 rfl 0 rfl ?_
        refine s_iconst o dX11_workPart_146 ?_
        refine s_cv (d := d + 6) (C := "LazyForgeModel") (As := [vI v1, vI 0]) (st := [vA (mg Γ) 21]) o (st_child (mg Γ) (d + 6) h hT v1 0 hv1 (r32 rfl)) mw_X11_child rfl (Or.inl (lw_all_tbl q3189)) (lw_all_tbl qs115) (lw_all_tbl q3191) (fun t => rc_t o hT t) (wt_A wt_0) rfl dX11_workPart_147 rfl (rs := fun r => [vI r, vA (mg Γ) 21]) (fun _ => rfl) (fun v11 hv11 => ?_)
        refine s_cv (d := d + 6) (C := "LazyForgeModel") (As := [vI v11]) (st := []) o (st_evaluate (mg Γ) (d + 6) h hT v11 (hv11 _ rfl)) mw_X11_evaluate rfl (Or.inl (lw_all_tbl q3272)) (lw_all_tbl qs132) (lw_all_tbl q3274) (fun t => rc_t o hT t) wt_0 rfl dX11_workPart_150 rfl (rs := fun _ => []) (fun _ => rfl) (fun _ _ => ?_)
        refine s_goto (tgt := 250) o dX11_workPart_153 (by decide) ?_
        exact s_vret o rfl dX11_workPart_250 (fun _ hh => hh)
      · refine s_case (P := True) (fun e11 => ?_) (fun e11 => ?_)
        · refine s_tabE o e11 dX11_workPart_11 (r32 rfl) rfl rfl (tgt := 124) (by decide) ?_
          refine s_aload_n o dX11_workPart_124 rfl 1 rfl ?_
          refine s_aload_n o dX11_workPart_125 rfl 1 rfl ?_
          refine s_iload_n o dX11_workPart_126 rfl 0 rfl ?_
          refine s_cv (d := d + 6) (C := "LazyForgeModel") (As := [vI v1]) (st := [vA (mg Γ) 21]) o (st_keep (mg Γ) (d + 2) h hT v1 hv1) mw_X11_keep rfl (Or.inl (lw_all_tbl q3297)) (lw_all_tbl qs138) (lw_all_tbl q3299) (fun t => rc_t o hT t) (wt_A wt_0) rfl dX11_workPart_127 rfl (rs := fun r => [vJ r, vA (mg Γ) 21]) (fun _ => rfl) (fun v13 hv13 => ?_)
          refine s_cv (d := d + 6) (C := "LazyForgeModel") (As := [vJ v13]) (st := []) o (st_gives (mg Γ) (d + 6) h hT v13 (hv13 _ rfl)) mw_X11_gives rfl (Or.inl (lw_all_tbl q3257)) (lw_all_tbl qs129) (lw_all_tbl q3259) (fun t => rc_t o hT t) wt_0 rfl dX11_workPart_130 rfl (rs := fun _ => []) (fun _ => rfl) (fun _ _ => ?_)
          refine s_goto (tgt := 250) o dX11_workPart_133 (by decide) ?_
          exact s_vret o rfl dX11_workPart_250 (fun _ hh => hh)
        · refine s_case (P := True) (fun e13 => ?_) (fun e13 => ?_)
          · refine s_tabE o e13 dX11_workPart_11 (r32 rfl) rfl rfl (tgt := 103) (by decide) ?_
            refine s_aload_n o dX11_workPart_103 rfl 1 rfl ?_
            refine s_aload_n o dX11_workPart_104 rfl 1 rfl ?_
            refine s_iload_n o dX11_workPart_105 rfl 0 rfl ?_
            refine s_cv (d := d + 6) (C := "LazyForgeModel") (As := [vI v1]) (st := [vA (mg Γ) 21]) o (st_plain (mg Γ) (d + 5) h hT v1 hv1) mw_X11_plain rfl (Or.inl (lw_all_tbl q3301)) (lw_all_tbl qs139) (lw_all_tbl q3303) (fun t => rc_t o hT t) (wt_A wt_0) rfl dX11_workPart_106 rfl (rs := fun r => [vJ r, vA (mg Γ) 21]) (fun _ => rfl) (fun v15 hv15 => ?_)
            refine s_cv (d := d + 6) (C := "LazyForgeModel") (As := [vJ v15]) (st := []) o (st_enter (mg Γ) (d + 4) h hT v15 (hv15 _ rfl)) mw_X11_enter rfl (Or.inl (lw_all_tbl q3250)) (lw_all_tbl qs128) (lw_all_tbl q3252) (fun t => rc_t o hT t) wt_0 rfl dX11_workPart_109 rfl (rs := fun _ => []) (fun _ => rfl) (fun _ _ => ?_)
            refine s_goto (tgt := 250) o dX11_workPart_112 (by decide) ?_
            exact s_vret o rfl dX11_workPart_250 (fun _ hh => hh)
          · refine s_case (P := True) (fun e15 => ?_) (fun e15 => ?_)
            · refine s_tabE o e15 dX11_workPart_11 (r32 rfl) rfl rfl (tgt := 103) (by decide) ?_
              refine s_aload_n o dX11_workPart_103 rfl 1 rfl ?_
              refine s_aload_n o dX11_workPart_104 rfl 1 rfl ?_
              refine s_iload_n o dX11_workPart_105 rfl 0 rfl ?_
              refine s_cv (d := d + 6) (C := "LazyForgeModel") (As := [vI v1]) (st := [vA (mg Γ) 21]) o (st_plain (mg Γ) (d + 5) h hT v1 hv1) mw_X11_plain rfl (Or.inl (lw_all_tbl q3301)) (lw_all_tbl qs139) (lw_all_tbl q3303) (fun t => rc_t o hT t) (wt_A wt_0) rfl dX11_workPart_106 rfl (rs := fun r => [vJ r, vA (mg Γ) 21]) (fun _ => rfl) (fun v17 hv17 => ?_)
              refine s_cv (d := d + 6) (C := "LazyForgeModel") (As := [vJ v17]) (st := []) o (st_enter (mg Γ) (d + 4) h hT v17 (hv17 _ rfl)) mw_X11_enter rfl (Or.inl (lw_all_tbl q3250)) (lw_all_tbl qs128) (lw_all_tbl q3252) (fun t => rc_t o hT t) wt_0 rfl dX11_workPart_109 rfl (rs := fun _ => []) (fun _ => rfl) (fun _ _ => ?_)
              refine s_goto (tgt := 250) o dX11_workPart_112 (by decide) ?_
              exact s_vret o rfl dX11_workPart_250 (fun _ hh => hh)
            · refine s_case (P := True) (fun e17 => ?_) (fun e17 => ?_)
              · refine s_tabE o e17 dX11_workPart_11 (r32 rfl) rfl rfl (tgt := 115) (by decide) ?_
                refine s_aload_n o dX11_workPart_115 rfl 1 rfl ?_
                refine s_iconst o dX11_workPart_116 ?_
                refine s_iconst o dX11_workPart_117 ?_
                refine s_cv (d := d + 6) (C := "LazyForgeModel") (As := [vI 2, vI 5]) (st := []) o (st_ends (mg Γ) (d + 6) h hT 2 5 (r32 rfl) (r32 rfl)) mw_X11_ends rfl (Or.inl (lw_all_tbl q3238)) (lw_all_tbl qs126) (lw_all_tbl q3240) (fun t => rc_t o hT t) wt_0 rfl dX11_workPart_118 rfl (rs := fun _ => []) (fun _ => rfl) (fun _ _ => ?_)
                refine s_goto (tgt := 250) o dX11_workPart_121 (by decide) ?_
                exact s_vret o rfl dX11_workPart_250 (fun _ hh => hh)
              · refine s_case (P := True) (fun e18 => ?_) (fun e18 => ?_)
                · refine s_tabE o e18 dX11_workPart_11 (r32 rfl) rfl rfl (tgt := 103) (by decide) ?_
                  refine s_aload_n o dX11_workPart_103 rfl 1 rfl ?_
                  refine s_aload_n o dX11_workPart_104 rfl 1 rfl ?_
                  refine s_iload_n o dX11_workPart_105 rfl 0 rfl ?_
                  refine s_cv (d := d + 6) (C := "LazyForgeModel") (As := [vI v1]) (st := [vA (mg Γ) 21]) o (st_plain (mg Γ) (d + 5) h hT v1 hv1) mw_X11_plain rfl (Or.inl (lw_all_tbl q3301)) (lw_all_tbl qs139) (lw_all_tbl q3303) (fun t => rc_t o hT t) (wt_A wt_0) rfl dX11_workPart_106 rfl (rs := fun r => [vJ r, vA (mg Γ) 21]) (fun _ => rfl) (fun v20 hv20 => ?_)
                  refine s_cv (d := d + 6) (C := "LazyForgeModel") (As := [vJ v20]) (st := []) o (st_enter (mg Γ) (d + 4) h hT v20 (hv20 _ rfl)) mw_X11_enter rfl (Or.inl (lw_all_tbl q3250)) (lw_all_tbl qs128) (lw_all_tbl q3252) (fun t => rc_t o hT t) wt_0 rfl dX11_workPart_109 rfl (rs := fun _ => []) (fun _ => rfl) (fun _ _ => ?_)
                  refine s_goto (tgt := 250) o dX11_workPart_112 (by decide) ?_
                  exact s_vret o rfl dX11_workPart_250 (fun _ hh => hh)
                · refine s_case (P := True) (fun e20 => ?_) (fun e20 => ?_)
                  · refine s_tabE o e20 dX11_workPart_11 (r32 rfl) rfl rfl (tgt := 80) (by decide) ?_
                    refine s_aload_n o dX11_workPart_80 rfl 1 rfl ?_
                    refine s_aload_n o dX11_workPart_81 rfl 1 rfl ?_
                    refine s_tga (x := 93) o hT tf_locals ta_locals (lw_all_tbl q2628) dX11_workPart_82 ?_
                    refine s_aload_n o dX11_workPart_85 rfl 1 rfl ?_
                    refine r_tgf vI rfl o hT tf_base tj_base (lw_all_tbl q2626) dX11_workPart_86 (fun v22 hv22 => ?_)
                    refine s_aload_n o dX11_workPart_89 rfl 1 rfl ?_
                    refine s_tga (x := 59) o hT tf_liftValues ta_liftValues (lw_all_tbl q2569) dX11_workPart_90 ?_
                    refine s_iload_n o dX11_workPart_93 rfl 0 rfl ?_
                    refine r_tiald o hT tr_liftValues hv1 dX11_workPart_94 (fun v23 hv23 => ?_)
                    refine s_iadd o dX11_workPart_95 ?_
                    refine r_tlald o hT tr_locals (w32_R _) dX11_workPart_96 (fun v24 hv24 => ?_)
                    refine s_cv (d := d + 6) (C := "LazyForgeModel") (As := [vJ v24]) (st := []) o (st_enter (mg Γ) (d + 4) h hT v24 hv24) mw_X11_enter rfl (Or.inl (lw_all_tbl q3250)) (lw_all_tbl qs128) (lw_all_tbl q3252) (fun t => rc_t o hT t) wt_0 rfl dX11_workPart_97 rfl (rs := fun _ => []) (fun _ => rfl) (fun _ _ => ?_)
                    refine s_goto (tgt := 250) o dX11_workPart_100 (by decide) ?_
                    exact s_vret o rfl dX11_workPart_250 (fun _ hh => hh)
                  · refine s_split (x := v2) (v := 1) (fun e24 => ?_) (fun e24 => ?_)
                    · refine s_tabE o e24 dX11_workPart_11 (r32 rfl) rfl rfl (tgt := 245) (by decide) ?_
                      refine s_aload_n o dX11_workPart_245 rfl 1 rfl ?_
                      refine s_iload_n o dX11_workPart_246 rfl 0 rfl ?_
                      refine s_cv (d := d + 6) (C := "LazyForgeModel") (As := [vI v1]) (st := []) o (st_workApplication (mg Γ) d h hT v1 hv1) mw_X11_workApplication rfl (Or.inl (lw_all_tbl q3340)) (lw_all_tbl qs148) (lw_all_tbl q3342) (fun t => rc_t o hT t) wt_0 rfl dX11_workPart_247 rfl (rs := fun _ => []) (fun _ => rfl) (fun _ _ => ?_)
                      exact s_vret o rfl dX11_workPart_250 (fun _ hh => hh)
                    · refine s_split (x := v2) (v := 2) (fun e25 => ?_) (fun e25 => ?_)
                      · refine s_tabE o e25 dX11_workPart_11 (r32 rfl) rfl rfl (tgt := 245) (by decide) ?_
                        refine s_aload_n o dX11_workPart_245 rfl 1 rfl ?_
                        refine s_iload_n o dX11_workPart_246 rfl 0 rfl ?_
                        refine s_cv (d := d + 6) (C := "LazyForgeModel") (As := [vI v1]) (st := []) o (st_workApplication (mg Γ) d h hT v1 hv1) mw_X11_workApplication rfl (Or.inl (lw_all_tbl q3340)) (lw_all_tbl qs148) (lw_all_tbl q3342) (fun t => rc_t o hT t) wt_0 rfl dX11_workPart_247 rfl (rs := fun _ => []) (fun _ => rfl) (fun _ _ => ?_)
                        exact s_vret o rfl dX11_workPart_250 (fun _ hh => hh)
                      · refine s_split (x := v2) (v := 4) (fun e26 => ?_) (fun e26 => ?_)
                        · refine s_tabE o e26 dX11_workPart_11 (r32 rfl) rfl rfl (tgt := 245) (by decide) ?_
                          refine s_aload_n o dX11_workPart_245 rfl 1 rfl ?_
                          refine s_iload_n o dX11_workPart_246 rfl 0 rfl ?_
                          refine s_cv (d := d + 6) (C := "LazyForgeModel") (As := [vI v1]) (st := []) o (st_workApplication (mg Γ) d h hT v1 hv1) mw_X11_workApplication rfl (Or.inl (lw_all_tbl q3340)) (lw_all_tbl qs148) (lw_all_tbl q3342) (fun t => rc_t o hT t) wt_0 rfl dX11_workPart_247 rfl (rs := fun _ => []) (fun _ => rfl) (fun _ _ => ?_)
                          exact s_vret o rfl dX11_workPart_250 (fun _ hh => hh)
                        · refine s_split (x := v2) (v := 6) (fun e27 => ?_) (fun e27 => ?_)
                          · refine s_tabE o e27 dX11_workPart_11 (r32 rfl) rfl rfl (tgt := 245) (by decide) ?_
                            refine s_aload_n o dX11_workPart_245 rfl 1 rfl ?_
                            refine s_iload_n o dX11_workPart_246 rfl 0 rfl ?_
                            refine s_cv (d := d + 6) (C := "LazyForgeModel") (As := [vI v1]) (st := []) o (st_workApplication (mg Γ) d h hT v1 hv1) mw_X11_workApplication rfl (Or.inl (lw_all_tbl q3340)) (lw_all_tbl qs148) (lw_all_tbl q3342) (fun t => rc_t o hT t) wt_0 rfl dX11_workPart_247 rfl (rs := fun _ => []) (fun _ => rfl) (fun _ _ => ?_)
                            exact s_vret o rfl dX11_workPart_250 (fun _ hh => hh)
                          · refine s_split (x := v2) (v := 8) (fun e28 => ?_) (fun e28 => ?_)
                            · refine s_tabE o e28 dX11_workPart_11 (r32 rfl) rfl rfl (tgt := 245) (by decide) ?_
                              refine s_aload_n o dX11_workPart_245 rfl 1 rfl ?_
                              refine s_iload_n o dX11_workPart_246 rfl 0 rfl ?_
                              refine s_cv (d := d + 6) (C := "LazyForgeModel") (As := [vI v1]) (st := []) o (st_workApplication (mg Γ) d h hT v1 hv1) mw_X11_workApplication rfl (Or.inl (lw_all_tbl q3340)) (lw_all_tbl qs148) (lw_all_tbl q3342) (fun t => rc_t o hT t) wt_0 rfl dX11_workPart_247 rfl (rs := fun _ => []) (fun _ => rfl) (fun _ _ => ?_)
                              exact s_vret o rfl dX11_workPart_250 (fun _ hh => hh)
                            · refine s_tabOut o dX11_workPart_11 hv2 (by omega) (tgt := 245) (by decide) ?_
                              refine s_aload_n o dX11_workPart_245 rfl 1 rfl ?_
                              refine s_iload_n o dX11_workPart_246 rfl 0 rfl ?_
                              refine s_cv (d := d + 6) (C := "LazyForgeModel") (As := [vI v1]) (st := []) o (st_workApplication (mg Γ) d h hT v1 hv1) mw_X11_workApplication rfl (Or.inl (lw_all_tbl q3340)) (lw_all_tbl qs148) (lw_all_tbl q3342) (fun t => rc_t o hT t) wt_0 rfl dX11_workPart_247 rfl (rs := fun _ => []) (fun _ => rfl) (fun _ _ => ?_)
                              exact s_vret o rfl dX11_workPart_250 (fun _ hh => hh)
theorem dX11_wantE_0 : decode cX11_wantE 0 = .ok (.aload_n 0, 1) := by decide +kernel
theorem dX11_wantE_1 : decode cX11_wantE 1 = .ok (.getfield 393, 3) := by decide +kernel
theorem dX11_wantE_4 : decode cX11_wantE 4 = .ok (.ifCond .eq 21, 3) := by decide +kernel
theorem dX11_wantE_7 : decode cX11_wantE 7 = .ok (.aload_n 0, 1) := by decide +kernel
theorem dX11_wantE_8 : decode cX11_wantE 8 = .ok (.invokevirtual 457, 3) := by decide +kernel
theorem dX11_wantE_11 : decode cX11_wantE 11 = .ok (.ifCond .eq 14, 3) := by decide +kernel
theorem dX11_wantE_14 : decode cX11_wantE 14 = .ok (.aload_n 0, 1) := by decide +kernel
theorem dX11_wantE_15 : decode cX11_wantE 15 = .ok (.iconst 1, 1) := by decide +kernel
theorem dX11_wantE_16 : decode cX11_wantE 16 = .ok (.putfield 389, 3) := by decide +kernel
theorem dX11_wantE_19 : decode cX11_wantE 19 = .ok (.aload_n 0, 1) := by decide +kernel
theorem dX11_wantE_20 : decode cX11_wantE 20 = .ok (.iconst 1, 1) := by decide +kernel
theorem dX11_wantE_21 : decode cX11_wantE 21 = .ok (.putfield 393, 3) := by decide +kernel
theorem dX11_wantE_24 : decode cX11_wantE 24 = .ok (.return_, 1) := by decide +kernel
theorem dX11_wantE_25 : decode cX11_wantE 25 = .ok (.aload_n 0, 1) := by decide +kernel
theorem dX11_wantE_26 : decode cX11_wantE 26 = .ok (.getfield 311, 3) := by decide +kernel
theorem dX11_wantE_29 : decode cX11_wantE 29 = .ok (.ifCond .ne 14, 3) := by decide +kernel
theorem dX11_wantE_32 : decode cX11_wantE 32 = .ok (.aload_n 0, 1) := by decide +kernel
theorem dX11_wantE_33 : decode cX11_wantE 33 = .ok (.invokevirtual 459, 3) := by decide +kernel
theorem dX11_wantE_36 : decode cX11_wantE 36 = .ok (.ifCond .eq 7, 3) := by decide +kernel
theorem dX11_wantE_39 : decode cX11_wantE 39 = .ok (.iconst 1, 1) := by decide +kernel
theorem dX11_wantE_40 : decode cX11_wantE 40 = .ok (.goto 4, 3) := by decide +kernel
theorem dX11_wantE_43 : decode cX11_wantE 43 = .ok (.iconst 0, 1) := by decide +kernel
theorem dX11_wantE_44 : decode cX11_wantE 44 = .ok (.istore_n 1, 1) := by decide +kernel
theorem dX11_wantE_45 : decode cX11_wantE 45 = .ok (.aload_n 0, 1) := by decide +kernel
theorem dX11_wantE_46 : decode cX11_wantE 46 = .ok (.iconst 0, 1) := by decide +kernel
theorem dX11_wantE_47 : decode cX11_wantE 47 = .ok (.putfield 424, 3) := by decide +kernel
theorem dX11_wantE_50 : decode cX11_wantE 50 = .ok (.aload_n 0, 1) := by decide +kernel
theorem dX11_wantE_51 : decode cX11_wantE 51 = .ok (.iload_n 1, 1) := by decide +kernel
theorem dX11_wantE_52 : decode cX11_wantE 52 = .ok (.ifCond .ne 7, 3) := by decide +kernel
theorem dX11_wantE_55 : decode cX11_wantE 55 = .ok (.iconst 1, 1) := by decide +kernel
theorem dX11_wantE_56 : decode cX11_wantE 56 = .ok (.goto 4, 3) := by decide +kernel
theorem dX11_wantE_59 : decode cX11_wantE 59 = .ok (.iconst 0, 1) := by decide +kernel
theorem dX11_wantE_60 : decode cX11_wantE 60 = .ok (.putfield 389, 3) := by decide +kernel
theorem dX11_wantE_63 : decode cX11_wantE 63 = .ok (.aload_n 0, 1) := by decide +kernel
theorem dX11_wantE_64 : decode cX11_wantE 64 = .ok (.iconst 1, 1) := by decide +kernel
theorem dX11_wantE_65 : decode cX11_wantE 65 = .ok (.putfield 393, 3) := by decide +kernel
theorem dX11_wantE_68 : decode cX11_wantE 68 = .ok (.return_, 1) := by decide +kernel
theorem mw_X11_wantE : MW yX11_wantE (Cond.code yX11_wantE cX11_wantE 2 (Option.none : Option Jvm.ClassFile.FieldType)) cX11_wantE 2 (Option.none : Option Jvm.ClassFile.FieldType) 0 := ⟨rfl, ⟨(lw_all_tbl q3026), rfl, (lw_all_tbl q173)⟩, rfl, ⟨by decide, by decide⟩, by decide +kernel⟩
noncomputable def t_wantE_60  (k0 : Int) : Mo TS Int :=
  bnd (ss 43 k0) fun _ =>
  bnd (ss 42 1) fun _ =>
  pr 0
theorem st_wantE_60 {Γ : Gm} {h : CH} {d : Nat} (hT : HT h) (o : Ok Γ "LazyForgeModel" cX11_wantE 2 (Option.none : Option Jvm.ClassFile.FieldType) (d + 8))   (k0 : Int) (hk0 : rg .boolean k0) : Sx Γ (fun t => (h, t)) (fun a s => mt Γ = (0, a, ((h, s) : Wd))) 60 [(0, vA (mg Γ) 21)] [vI k0, vA (mg Γ) 21] (t_wantE_60 k0) := by
  unfold t_wantE_60
  refine r_tpf vI rfl o hT tf_wants tj_wants (lw_all_tbl q2547) dX11_wantE_60 hk0 ty_boolean ?_
  refine s_aload_n o dX11_wantE_63 rfl 0 rfl ?_
  refine s_iconst o dX11_wantE_64 ?_
  refine r_tpf vI rfl o hT tf_startsE tj_startsE (lw_all_tbl q2546) dX11_wantE_65 (Or.inr rfl) ty_boolean ?_
  exact s_vret o rfl dX11_wantE_68 (fun _ hh => hh)
noncomputable def t_wantE_44  (k0 : Int) : Mo TS Int :=
  bnd (ss 44 0) fun _ =>
  if ¬ k0 = 0 then
    t_wantE_60 0
  else
    t_wantE_60 1
theorem st_wantE_44 {Γ : Gm} {h : CH} {d : Nat} (hT : HT h) (o : Ok Γ "LazyForgeModel" cX11_wantE 2 (Option.none : Option Jvm.ClassFile.FieldType) (d + 8))   (k0 : Int) (hk0 : rg .boolean k0) : Sx Γ (fun t => (h, t)) (fun a s => mt Γ = (0, a, ((h, s) : Wd))) 44 [(0, vA (mg Γ) 21)] [vI k0] (t_wantE_44 k0) := by
  unfold t_wantE_44
  refine r_istore_n o dX11_wantE_44 rfl rfl ⟨(Nat.ne_of_beq_eq_false rfl), (fun _ => (vA_cat (mg Γ) 21)), trivial⟩ ?_
  refine s_aload_n o dX11_wantE_45 rfl 1 rfl ?_
  refine s_iconst o dX11_wantE_46 ?_
  refine r_tpf vI rfl o hT tf_isApplied tj_isApplied (lw_all_tbl q2548) dX11_wantE_47 (Or.inl rfl) ty_boolean ?_
  refine s_aload_n o dX11_wantE_50 rfl 1 rfl ?_
  refine s_iload_n o dX11_wantE_51 rfl 0 rfl ?_
  refine s_if_ne (tgt := 59) o dX11_wantE_52 (by decide) (rZ hk0) ?_ ?_
  · refine s_iconst o dX11_wantE_59 ?_
    refine r_to [(0, vA (mg Γ) 21)] [1] rfl ?_
    exact st_wantE_60 hT o 0 (Or.inl rfl)
  · refine s_iconst o dX11_wantE_55 ?_
    refine s_goto (tgt := 60) o dX11_wantE_56 (by decide) ?_
    refine r_to [(0, vA (mg Γ) 21)] [1] rfl ?_
    exact st_wantE_60 hT o 1 (Or.inr rfl)
noncomputable def t_wantE_43  : Mo TS Int :=
  t_wantE_44 0
theorem st_wantE_43 {Γ : Gm} {h : CH} {d : Nat} (hT : HT h) (o : Ok Γ "LazyForgeModel" cX11_wantE 2 (Option.none : Option Jvm.ClassFile.FieldType) (d + 8))   : Sx Γ (fun t => (h, t)) (fun a s => mt Γ = (0, a, ((h, s) : Wd))) 43 [(0, vA (mg Γ) 21)] [] (t_wantE_43) := by
  unfold t_wantE_43
  refine s_iconst o dX11_wantE_43 ?_
  exact st_wantE_44 hT o 0 (Or.inl rfl)
noncomputable def t_wantE_25  : Mo TS Int :=
  bnd (gs 10) fun v1 =>
  if ¬ v1 = 0 then
    t_wantE_43
  else
    bnd (t_application) fun v2 =>
    if v2 = 0 then
      t_wantE_43
    else
      t_wantE_44 1
theorem st_wantE_25 {Γ : Gm} {h : CH} {d : Nat} (hT : HT h) (o : Ok Γ "LazyForgeModel" cX11_wantE 2 (Option.none : Option Jvm.ClassFile.FieldType) (d + 8))   : Sx Γ (fun t => (h, t)) (fun a s => mt Γ = (0, a, ((h, s) : Wd))) 25 [(0, vA (mg Γ) 21)] [] (t_wantE_25) := by
  unfold t_wantE_25
  refine s_aload_n o dX11_wantE_25 rfl 0 rfl ?_
  refine r_tgf vI rfl o hT tf_fault tj_fault (lw_all_tbl q2514) dX11_wantE_26 (fun v1 hv1 => ?_)
  refine s_if_ne (tgt := 43) o dX11_wantE_29 (by decide) hv1 ?_ ?_
  · exact st_wantE_43 hT o
  · refine s_aload_n o dX11_wantE_32 rfl 0 rfl ?_
    refine s_cv (d := d + 7) (C := "LazyForgeModel") (As := []) (st := []) o (st_application (mg Γ) d h hT) mw_X11_application rfl (Or.inl (lw_all_tbl q3043)) (lw_all_tbl qs81) (lw_all_tbl q3045) (fun t => rc_t o hT t) wt_0 rfl dX11_wantE_33 rfl (rs := fun r => [vI r]) (fun _ => rfl) (fun v2 hv2 => ?_)
    refine s_if_eq (tgt := 43) o dX11_wantE_36 (by decide) (rZ (hv2 _ rfl)) ?_ ?_
    · exact st_wantE_43 hT o
    · refine s_iconst o dX11_wantE_39 ?_
      refine s_goto (tgt := 44) o dX11_wantE_40 (by decide) ?_
      exact st_wantE_44 hT o 1 (Or.inr rfl)
noncomputable def t_wantE : Mo TS Int :=
  bnd (gs 42) fun v1 =>
  if v1 = 0 then
    t_wantE_25
  else
    bnd (t_begins) fun v2 =>
    if v2 = 0 then
      t_wantE_25
    else
      bnd (ss 43 1) fun _ =>
      bnd (ss 42 1) fun _ =>
      pr 0
theorem st_wantE (g : gC) (d : Nat) (h : CH) (hT : HT h) : SF g yX11_wantE (Cond.code yX11_wantE cX11_wantE 2 (Option.none : Option Jvm.ClassFile.FieldType)) (Option.none : Option Jvm.ClassFile.FieldType) (d + 8) [vA g 21] (fun t => (h, t)) (t_wantE) := by
  refine SF.of (lv := [(0, vA g 21)]) (by decide) (wt_A wt_0) rfl (by simp only [la_A, la_I, la_J, la_0]) (fun Γ hg hnm o => ?_)
  subst hg
  have o : Ok Γ "LazyForgeModel" cX11_wantE 2 (Option.none : Option Jvm.ClassFile.FieldType) (d + 8) := o
  unfold t_wantE
  refine s_aload_n o dX11_wantE_0 rfl 0 rfl ?_
  refine r_tgf vI rfl o hT tf_startsE tj_startsE (lw_all_tbl q2546) dX11_wantE_1 (fun v1 hv1 => ?_)
  refine s_if_eq (tgt := 25) o dX11_wantE_4 (by decide) (rZ hv1) ?_ ?_
  · exact st_wantE_25 hT o
  · refine s_aload_n o dX11_wantE_7 rfl 0 rfl ?_
    refine s_cv (d := d + 7) (C := "LazyForgeModel") (As := []) (st := []) o (st_begins (mg Γ) d h hT) mw_X11_begins rfl (Or.inl (lw_all_tbl q3027)) (lw_all_tbl qs77) (lw_all_tbl q3029) (fun t => rc_t o hT t) wt_0 rfl dX11_wantE_8 rfl (rs := fun r => [vI r]) (fun _ => rfl) (fun v2 hv2 => ?_)
    refine s_if_eq (tgt := 25) o dX11_wantE_11 (by decide) (rZ (hv2 _ rfl)) ?_ ?_
    · exact st_wantE_25 hT o
    · refine s_aload_n o dX11_wantE_14 rfl 0 rfl ?_
      refine s_iconst o dX11_wantE_15 ?_
      refine r_tpf vI rfl o hT tf_wants tj_wants (lw_all_tbl q2547) dX11_wantE_16 (Or.inr rfl) ty_boolean ?_
      refine s_aload_n o dX11_wantE_19 rfl 0 rfl ?_
      refine s_iconst o dX11_wantE_20 ?_
      refine r_tpf vI rfl o hT tf_startsE tj_startsE (lw_all_tbl q2546) dX11_wantE_21 (Or.inr rfl) ty_boolean ?_
      exact s_vret o rfl dX11_wantE_24 (fun _ hh => hh)
theorem dX11_endE_0 : decode cX11_endE 0 = .ok (.aload_n 0, 1) := by decide +kernel
theorem dX11_endE_1 : decode cX11_endE 1 = .ok (.iconst 1, 1) := by decide +kernel
theorem dX11_endE_2 : decode cX11_endE 2 = .ok (.invokevirtual 430, 3) := by decide +kernel
theorem dX11_endE_5 : decode cX11_endE 5 = .ok (.aload_n 0, 1) := by decide +kernel
theorem dX11_endE_6 : decode cX11_endE 6 = .ok (.getfield 342, 3) := by decide +kernel
theorem dX11_endE_9 : decode cX11_endE 9 = .ok (.iconst 1, 1) := by decide +kernel
theorem dX11_endE_10 : decode cX11_endE 10 = .ok (.isub, 1) := by decide +kernel
theorem dX11_endE_11 : decode cX11_endE 11 = .ok (.istore_n 1, 1) := by decide +kernel
theorem dX11_endE_12 : decode cX11_endE 12 = .ok (.aload_n 0, 1) := by decide +kernel
theorem dX11_endE_13 : decode cX11_endE 13 = .ok (.getfield 68, 3) := by decide +kernel
theorem dX11_endE_16 : decode cX11_endE 16 = .ok (.iload_n 1, 1) := by decide +kernel
theorem dX11_endE_17 : decode cX11_endE 17 = .ok (.iaload, 1) := by decide +kernel
theorem dX11_endE_18 : decode cX11_endE 18 = .ok (.istore_n 2, 1) := by decide +kernel
theorem dX11_endE_19 : decode cX11_endE 19 = .ok (.aload_n 0, 1) := by decide +kernel
theorem dX11_endE_20 : decode cX11_endE 20 = .ok (.getfield 65, 3) := by decide +kernel
theorem dX11_endE_23 : decode cX11_endE 23 = .ok (.iload_n 1, 1) := by decide +kernel
theorem dX11_endE_24 : decode cX11_endE 24 = .ok (.iaload, 1) := by decide +kernel
theorem dX11_endE_25 : decode cX11_endE 25 = .ok (.tableswitch 180 1 6 #[39, 82, 90, 108, 126, 172], 39) := by decide +kernel
theorem dX11_endE_64 : decode cX11_endE 64 = .ok (.aload_n 0, 1) := by decide +kernel
theorem dX11_endE_65 : decode cX11_endE 65 = .ok (.aload_n 0, 1) := by decide +kernel
theorem dX11_endE_66 : decode cX11_endE 66 = .ok (.bipush 41, 2) := by decide +kernel
theorem dX11_endE_68 : decode cX11_endE 68 = .ok (.invokevirtual 383, 3) := by decide +kernel
theorem dX11_endE_71 : decode cX11_endE 71 = .ok (.invokevirtual 359, 3) := by decide +kernel
theorem dX11_endE_74 : decode cX11_endE 74 = .ok (.aload_n 0, 1) := by decide +kernel
theorem dX11_endE_75 : decode cX11_endE 75 = .ok (.dup, 1) := by decide +kernel
theorem dX11_endE_76 : decode cX11_endE 76 = .ok (.getfield 342, 3) := by decide +kernel
theorem dX11_endE_79 : decode cX11_endE 79 = .ok (.iconst 1, 1) := by decide +kernel
theorem dX11_endE_80 : decode cX11_endE 80 = .ok (.isub, 1) := by decide +kernel
theorem dX11_endE_81 : decode cX11_endE 81 = .ok (.putfield 342, 3) := by decide +kernel
theorem dX11_endE_84 : decode cX11_endE 84 = .ok (.aload_n 0, 1) := by decide +kernel
theorem dX11_endE_85 : decode cX11_endE 85 = .ok (.dup, 1) := by decide +kernel
theorem dX11_endE_86 : decode cX11_endE 86 = .ok (.getfield 339, 3) := by decide +kernel
theorem dX11_endE_89 : decode cX11_endE 89 = .ok (.iconst 1, 1) := by decide +kernel
theorem dX11_endE_90 : decode cX11_endE 90 = .ok (.isub, 1) := by decide +kernel
theorem dX11_endE_91 : decode cX11_endE 91 = .ok (.putfield 339, 3) := by decide +kernel
theorem dX11_endE_94 : decode cX11_endE 94 = .ok (.aload_n 0, 1) := by decide +kernel
theorem dX11_endE_95 : decode cX11_endE 95 = .ok (.iconst 0, 1) := by decide +kernel
theorem dX11_endE_96 : decode cX11_endE 96 = .ok (.putfield 424, 3) := by decide +kernel
theorem dX11_endE_99 : decode cX11_endE 99 = .ok (.aload_n 0, 1) := by decide +kernel
theorem dX11_endE_100 : decode cX11_endE 100 = .ok (.iconst 0, 1) := by decide +kernel
theorem dX11_endE_101 : decode cX11_endE 101 = .ok (.putfield 405, 3) := by decide +kernel
theorem dX11_endE_104 : decode cX11_endE 104 = .ok (.goto 131, 3) := by decide +kernel
theorem dX11_endE_107 : decode cX11_endE 107 = .ok (.aload_n 0, 1) := by decide +kernel
theorem dX11_endE_108 : decode cX11_endE 108 = .ok (.iload_n 2, 1) := by decide +kernel
theorem dX11_endE_109 : decode cX11_endE 109 = .ok (.invokevirtual 433, 3) := by decide +kernel
theorem dX11_endE_112 : decode cX11_endE 112 = .ok (.goto 123, 3) := by decide +kernel
theorem dX11_endE_115 : decode cX11_endE 115 = .ok (.aload_n 0, 1) := by decide +kernel
theorem dX11_endE_116 : decode cX11_endE 116 = .ok (.getfield 31, 3) := by decide +kernel
theorem dX11_endE_119 : decode cX11_endE 119 = .ok (.iload_n 2, 1) := by decide +kernel
theorem dX11_endE_120 : decode cX11_endE 120 = .ok (.aload_n 0, 1) := by decide +kernel
theorem dX11_endE_121 : decode cX11_endE 121 = .ok (.invokevirtual 420, 3) := by decide +kernel
theorem dX11_endE_124 : decode cX11_endE 124 = .ok (.iastore, 1) := by decide +kernel
theorem dX11_endE_125 : decode cX11_endE 125 = .ok (.aload_n 0, 1) := by decide +kernel
theorem dX11_endE_126 : decode cX11_endE 126 = .ok (.iload_n 2, 1) := by decide +kernel
theorem dX11_endE_127 : decode cX11_endE 127 = .ok (.invokevirtual 436, 3) := by decide +kernel
theorem dX11_endE_130 : decode cX11_endE 130 = .ok (.goto 105, 3) := by decide +kernel
theorem dX11_endE_133 : decode cX11_endE 133 = .ok (.aload_n 0, 1) := by decide +kernel
theorem dX11_endE_134 : decode cX11_endE 134 = .ok (.getfield 19, 3) := by decide +kernel
theorem dX11_endE_137 : decode cX11_endE 137 = .ok (.iload_n 2, 1) := by decide +kernel
theorem dX11_endE_138 : decode cX11_endE 138 = .ok (.aload_n 0, 1) := by decide +kernel
theorem dX11_endE_139 : decode cX11_endE 139 = .ok (.invokevirtual 420, 3) := by decide +kernel
theorem dX11_endE_142 : decode cX11_endE 142 = .ok (.iastore, 1) := by decide +kernel
theorem dX11_endE_143 : decode cX11_endE 143 = .ok (.aload_n 0, 1) := by decide +kernel
theorem dX11_endE_144 : decode cX11_endE 144 = .ok (.iload_n 2, 1) := by decide +kernel
theorem dX11_endE_145 : decode cX11_endE 145 = .ok (.invokevirtual 436, 3) := by decide +kernel
theorem dX11_endE_148 : decode cX11_endE 148 = .ok (.goto 87, 3) := by decide +kernel
theorem dX11_endE_151 : decode cX11_endE 151 = .ok (.aload_n 0, 1) := by decide +kernel
theorem dX11_endE_152 : decode cX11_endE 152 = .ok (.getfield 31, 3) := by decide +kernel
theorem dX11_endE_155 : decode cX11_endE 155 = .ok (.iload_n 2, 1) := by decide +kernel
theorem dX11_endE_156 : decode cX11_endE 156 = .ok (.aload_n 0, 1) := by decide +kernel
theorem dX11_endE_157 : decode cX11_endE 157 = .ok (.invokevirtual 420, 3) := by decide +kernel
theorem dX11_endE_160 : decode cX11_endE 160 = .ok (.iastore, 1) := by decide +kernel
theorem dX11_endE_161 : decode cX11_endE 161 = .ok (.aload_n 0, 1) := by decide +kernel
theorem dX11_endE_162 : decode cX11_endE 162 = .ok (.aload_n 0, 1) := by decide +kernel
theorem dX11_endE_163 : decode cX11_endE 163 = .ok (.getfield 286, 3) := by decide +kernel
theorem dX11_endE_166 : decode cX11_endE 166 = .ok (.bipush 14, 2) := by decide +kernel
theorem dX11_endE_168 : decode cX11_endE 168 = .ok (.if_icmp .ne 7, 3) := by decide +kernel
theorem dX11_endE_171 : decode cX11_endE 171 = .ok (.iconst 1, 1) := by decide +kernel
theorem dX11_endE_172 : decode cX11_endE 172 = .ok (.goto 4, 3) := by decide +kernel
theorem dX11_endE_175 : decode cX11_endE 175 = .ok (.iconst 0, 1) := by decide +kernel
theorem dX11_endE_176 : decode cX11_endE 176 = .ok (.invokevirtual 359, 3) := by decide +kernel
theorem dX11_endE_179 : decode cX11_endE 179 = .ok (.aload_n 0, 1) := by decide +kernel
theorem dX11_endE_180 : decode cX11_endE 180 = .ok (.aload_n 0, 1) := by decide +kernel
theorem dX11_endE_181 : decode cX11_endE 181 = .ok (.bipush 123, 2) := by decide +kernel
theorem dX11_endE_183 : decode cX11_endE 183 = .ok (.invokevirtual 383, 3) := by decide +kernel
theorem dX11_endE_186 : decode cX11_endE 186 = .ok (.invokevirtual 359, 3) := by decide +kernel
theorem dX11_endE_189 : decode cX11_endE 189 = .ok (.aload_n 0, 1) := by decide +kernel
theorem dX11_endE_190 : decode cX11_endE 190 = .ok (.iload_n 2, 1) := by decide +kernel
theorem dX11_endE_191 : decode cX11_endE 191 = .ok (.invokevirtual 439, 3) := by decide +kernel
theorem dX11_endE_194 : decode cX11_endE 194 = .ok (.goto 41, 3) := by decide +kernel
theorem dX11_endE_197 : decode cX11_endE 197 = .ok (.aload_n 0, 1) := by decide +kernel
theorem dX11_endE_198 : decode cX11_endE 198 = .ok (.iload_n 2, 1) := by decide +kernel
theorem dX11_endE_199 : decode cX11_endE 199 = .ok (.invokevirtual 442, 3) := by decide +kernel
theorem dX11_endE_202 : decode cX11_endE 202 = .ok (.goto 33, 3) := by decide +kernel
theorem dX11_endE_205 : decode cX11_endE 205 = .ok (.aload_n 0, 1) := by decide +kernel
theorem dX11_endE_206 : decode cX11_endE 206 = .ok (.getfield 19, 3) := by decide +kernel
theorem dX11_endE_209 : decode cX11_endE 209 = .ok (.iload_n 2, 1) := by decide +kernel
theorem dX11_endE_210 : decode cX11_endE 210 = .ok (.aload_n 0, 1) := by decide +kernel
theorem dX11_endE_211 : decode cX11_endE 211 = .ok (.invokevirtual 420, 3) := by decide +kernel
theorem dX11_endE_214 : decode cX11_endE 214 = .ok (.iastore, 1) := by decide +kernel
theorem dX11_endE_215 : decode cX11_endE 215 = .ok (.aload_n 0, 1) := by decide +kernel
theorem dX11_endE_216 : decode cX11_endE 216 = .ok (.aload_n 0, 1) := by decide +kernel
theorem dX11_endE_217 : decode cX11_endE 217 = .ok (.bipush 59, 2) := by decide +kernel
theorem dX11_endE_219 : decode cX11_endE 219 = .ok (.invokevirtual 383, 3) := by decide +kernel
theorem dX11_endE_222 : decode cX11_endE 222 = .ok (.invokevirtual 359, 3) := by decide +kernel
theorem dX11_endE_225 : decode cX11_endE 225 = .ok (.aload_n 0, 1) := by decide +kernel
theorem dX11_endE_226 : decode cX11_endE 226 = .ok (.dup, 1) := by decide +kernel
theorem dX11_endE_227 : decode cX11_endE 227 = .ok (.getfield 342, 3) := by decide +kernel
theorem dX11_endE_230 : decode cX11_endE 230 = .ok (.iconst 1, 1) := by decide +kernel
theorem dX11_endE_231 : decode cX11_endE 231 = .ok (.isub, 1) := by decide +kernel
theorem dX11_endE_232 : decode cX11_endE 232 = .ok (.putfield 342, 3) := by decide +kernel
theorem dX11_endE_235 : decode cX11_endE 235 = .ok (.return_, 1) := by decide +kernel
theorem mw_X11_endE : MW yX11_endE (Cond.code yX11_endE cX11_endE 3 (Option.none : Option Jvm.ClassFile.FieldType)) cX11_endE 3 (Option.none : Option Jvm.ClassFile.FieldType) 0 := ⟨rfl, ⟨(lw_all_tbl q3093), rfl, (lw_all_tbl q173)⟩, rfl, ⟨by decide, by decide⟩, by decide +kernel⟩
noncomputable def t_endE_176  (l2 : Int) (k0 : Int) : Mo TS Int :=
  bnd (t_accept k0) fun _ =>
  bnd (t_isSign 123) fun v1 =>
  bnd (t_accept v1) fun _ =>
  bnd (t_branch l2) fun _ =>
  pr 0
theorem st_endE_176 {Γ : Gm} {h : CH} {d : Nat} (hT : HT h) (o : Ok Γ "LazyForgeModel" cX11_endE 3 (Option.none : Option Jvm.ClassFile.FieldType) (d + 8))   (l2 : Int) (k0 : Int) (hl2 : R32 l2) (hk0 : rg .boolean k0) : Sx Γ (fun t => (h, t)) (fun a s => mt Γ = (0, a, ((h, s) : Wd))) 176 [(0, vA (mg Γ) 21), (2, vI l2)] [vI k0, vA (mg Γ) 21] (t_endE_176 l2 k0) := by
  unfold t_endE_176
  refine s_cv (d := d + 7) (C := "LazyForgeModel") (As := [vI k0]) (st := []) o (st_accept (mg Γ) (d + 3) h hT k0 hk0) mw_X11_accept rfl (Or.inl (lw_all_tbl q2979)) (lw_all_tbl qs65) (lw_all_tbl q2981) (fun t => rc_t o hT t) wt_0 rfl dX11_endE_176 rfl (rs := fun _ => []) (fun _ => rfl) (fun _ _ => ?_)
  refine s_aload_n o dX11_endE_179 rfl 0 rfl ?_
  refine s_aload_n o dX11_endE_180 rfl 0 rfl ?_
  refine s_bipush o dX11_endE_181 rfl ?_
  refine s_cv (d := d + 7) (C := "LazyForgeModel") (As := [vI 123]) (st := [vA (mg Γ) 21]) o (st_isSign (mg Γ) (d + 7) h hT 123 (r32 rfl)) mw_X11_isSign rfl (Or.inl (lw_all_tbl q2987)) (lw_all_tbl qs67) (lw_all_tbl q2989) (fun t => rc_t o hT t) (wt_A wt_0) rfl dX11_endE_183 rfl (rs := fun r => [vI r, vA (mg Γ) 21]) (fun _ => rfl) (fun v1 hv1 => ?_)
  refine s_cv (d := d + 7) (C := "LazyForgeModel") (As := [vI v1]) (st := []) o (st_accept (mg Γ) (d + 3) h hT v1 (hv1 _ rfl)) mw_X11_accept rfl (Or.inl (lw_all_tbl q2979)) (lw_all_tbl qs65) (lw_all_tbl q2981) (fun t => rc_t o hT t) wt_0 rfl dX11_endE_186 rfl (rs := fun _ => []) (fun _ => rfl) (fun _ _ => ?_)
  refine s_aload_n o dX11_endE_189 rfl 0 rfl ?_
  refine s_iload_n o dX11_endE_190 rfl 1 rfl ?_
  refine s_cv (d := d + 7) (C := "LazyForgeModel") (As := [vI l2]) (st := []) o (st_branch (mg Γ) (d + 2) h hT l2 hl2) mw_X11_branch rfl (Or.inl (lw_all_tbl q3102)) (lw_all_tbl qs95) (lw_all_tbl q3104) (fun t => rc_t o hT t) wt_0 rfl dX11_endE_191 rfl (rs := fun _ => []) (fun _ => rfl) (fun _ _ => ?_)
  refine s_goto (tgt := 235) o dX11_endE_194 (by decide) ?_
  exact s_vret o rfl dX11_endE_235 (fun _ hh => hh)
noncomputable def t_endE : Mo TS Int :=
  bnd (t_reduce 1) fun _ =>
  bnd (gs 35) fun v1 =>
  bnd (rd 37 3200 (w32 (v1 - 1))) fun v2 =>
  bnd (rd 36 3200 (w32 (v1 - 1))) fun v3 =>
  if v3 = 1 then
    bnd (t_isSign 41) fun v5 =>
    bnd (t_accept v5) fun _ =>
    bnd (gs 35) fun v6 =>
    bnd (ss 35 (w32 (v6 - 1))) fun _ =>
    bnd (gs 34) fun v7 =>
    bnd (ss 34 (w32 (v7 - 1))) fun _ =>
    bnd (ss 44 0) fun _ =>
    bnd (ss 45 0) fun _ =>
    pr 0
  else
    if v3 = 2 then
      bnd (t_endBinding v2) fun _ =>
      pr 0
    else
      if v3 = 3 then
        bnd (t_taken) fun v10 =>
        bnd (wr 18 3200 v2 v10) fun _ =>
        bnd (t_close v2) fun _ =>
        pr 0
      else
        if v3 = 4 then
          bnd (t_taken) fun v12 =>
          bnd (wr 14 3200 v2 v12) fun _ =>
          bnd (t_close v2) fun _ =>
          pr 0
        else
          if v3 = 5 then
            bnd (t_taken) fun v14 =>
            bnd (wr 18 3200 v2 v14) fun _ =>
            bnd (gs 6) fun v15 =>
            if ¬ v15 = 14 then
              t_endE_176 v2 0
            else
              t_endE_176 v2 1
          else
            if v3 = 6 then
              bnd (t_endBranch v2) fun _ =>
              pr 0
            else
              bnd (t_taken) fun v17 =>
              bnd (wr 14 3200 v2 v17) fun _ =>
              bnd (t_isSign 59) fun v18 =>
              bnd (t_accept v18) fun _ =>
              bnd (gs 35) fun v19 =>
              bnd (ss 35 (w32 (v19 - 1))) fun _ =>
              pr 0
theorem st_endE (g : gC) (d : Nat) (h : CH) (hT : HT h) : SF g yX11_endE (Cond.code yX11_endE cX11_endE 3 (Option.none : Option Jvm.ClassFile.FieldType)) (Option.none : Option Jvm.ClassFile.FieldType) (d + 8) [vA g 21] (fun t => (h, t)) (t_endE) := by
  refine SF.of (lv := [(0, vA g 21)]) (by decide) (wt_A wt_0) rfl (by simp only [la_A, la_I, la_J, la_0]) (fun Γ hg hnm o => ?_)
  subst hg
  have o : Ok Γ "LazyForgeModel" cX11_endE 3 (Option.none : Option Jvm.ClassFile.FieldType) (d + 8) := o
  unfold t_endE
  refine s_aload_n o dX11_endE_0 rfl 0 rfl ?_
  refine s_iconst o dX11_endE_1 ?_
  refine s_cv (d := d + 7) (C := "LazyForgeModel") (As := [vI 1]) (st := []) o (st_reduce (mg Γ) (d + 6) h hT 1 (r32 rfl)) mw_X11_reduce rfl (Or.inl (lw_all_tbl q3086)) (lw_all_tbl qs91) (lw_all_tbl q3088) (fun t => rc_t o hT t) wt_0 rfl dX11_endE_2 rfl (rs := fun _ => []) (fun _ => rfl) (fun _ _ => ?_)
  refine s_aload_n o dX11_endE_5 rfl 0 rfl ?_
  refine r_tgf vI rfl o hT tf_piled tj_piled (lw_all_tbl q2539) dX11_endE_6 (fun v1 hv1 => ?_)
  refine s_iconst o dX11_endE_9 ?_
  refine s_isub o dX11_endE_10 ?_
  refine r_istore_n o dX11_endE_11 rfl rfl ⟨(Nat.ne_of_beq_eq_false rfl), (fun _ => (vA_cat (mg Γ) 21)), trivial⟩ ?_
  refine s_aload_n o dX11_endE_12 rfl 1 rfl ?_
  refine s_tga (x := 41) o hT tf_pileNodes ta_pileNodes (lw_all_tbl q2541) dX11_endE_13 ?_
  refine s_iload_n o dX11_endE_16 rfl 0 rfl ?_
  refine r_tiald o hT tr_pileNodes (w32_R _) dX11_endE_17 (fun v2 hv2 => ?_)
  refine r_istore_n o dX11_endE_18 rfl rfl ⟨(Nat.ne_of_beq_eq_false rfl), (fun _ => rfl), ⟨(Nat.ne_of_beq_eq_false rfl), (fun _ => (vA_cat (mg Γ) 21)), trivial⟩⟩ ?_
  refine s_aload_n o dX11_endE_19 rfl 2 rfl ?_
  refine s_tga (x := 40) o hT tf_pileKinds ta_pileKinds (lw_all_tbl q2540) dX11_endE_20 ?_
  refine s_iload_n o dX11_endE_23 rfl 1 rfl ?_
  refine r_tiald o hT tr_pileKinds (w32_R _) dX11_endE_24 (fun v3 hv3 => ?_)
  refine s_case (P := True) (fun e3 => ?_) (fun e3 => ?_)
  · refine s_tabE o e3 dX11_endE_25 (r32 rfl) rfl rfl (tgt := 64) (by decide) ?_
    refine s_aload_n o dX11_endE_64 rfl 2 rfl ?_
    refine s_aload_n o dX11_endE_65 rfl 2 rfl ?_
    refine s_bipush o dX11_endE_66 rfl ?_
    refine s_cv (d := d + 7) (C := "LazyForgeModel") (As := [vI 41]) (st := [vA (mg Γ) 21]) o (st_isSign (mg Γ) (d + 7) h hT 41 (r32 rfl)) mw_X11_isSign rfl (Or.inl (lw_all_tbl q2987)) (lw_all_tbl qs67) (lw_all_tbl q2989) (fun t => rc_t o hT t) (wt_A wt_0) rfl dX11_endE_68 rfl (rs := fun r => [vI r, vA (mg Γ) 21]) (fun _ => rfl) (fun v5 hv5 => ?_)
    refine s_cv (d := d + 7) (C := "LazyForgeModel") (As := [vI v5]) (st := []) o (st_accept (mg Γ) (d + 3) h hT v5 (hv5 _ rfl)) mw_X11_accept rfl (Or.inl (lw_all_tbl q2979)) (lw_all_tbl qs65) (lw_all_tbl q2981) (fun t => rc_t o hT t) wt_0 rfl dX11_endE_71 rfl (rs := fun _ => []) (fun _ => rfl) (fun _ _ => ?_)
    refine s_aload_n o dX11_endE_74 rfl 2 rfl ?_
    refine s_dup o dX11_endE_75 (vA_cat (mg Γ) 21) ?_
    refine r_tgf vI rfl o hT tf_piled tj_piled (lw_all_tbl q2539) dX11_endE_76 (fun v6 hv6 => ?_)
    refine s_iconst o dX11_endE_79 ?_
    refine s_isub o dX11_endE_80 ?_
    refine r_tpf vI rfl o hT tf_piled tj_piled (lw_all_tbl q2539) dX11_endE_81 (w32_R _) ty_int ?_
    refine s_aload_n o dX11_endE_84 rfl 2 rfl ?_
    refine s_dup o dX11_endE_85 (vA_cat (mg Γ) 21) ?_
    refine r_tgf vI rfl o hT tf_open tj_open (lw_all_tbl q2538) dX11_endE_86 (fun v7 hv7 => ?_)
    refine s_iconst o dX11_endE_89 ?_
    refine s_isub o dX11_endE_90 ?_
    refine r_tpf vI rfl o hT tf_open tj_open (lw_all_tbl q2538) dX11_endE_91 (w32_R _) ty_int ?_
    refine s_aload_n o dX11_endE_94 rfl 2 rfl ?_
    refine s_iconst o dX11_endE_95 ?_
    refine r_tpf vI rfl o hT tf_isApplied tj_isApplied (lw_all_tbl q2548) dX11_endE_96 (Or.inl rfl) ty_boolean ?_
    refine s_aload_n o dX11_endE_99 rfl 2 rfl ?_
    refine s_iconst o dX11_endE_100 ?_
    refine r_tpf vI rfl o hT tf_isEnded tj_isEnded (lw_all_tbl q2549) dX11_endE_101 (Or.inl rfl) ty_boolean ?_
    refine s_goto (tgt := 235) o dX11_endE_104 (by decide) ?_
    exact s_vret o rfl dX11_endE_235 (fun _ hh => hh)
  · refine s_case (P := True) (fun e7 => ?_) (fun e7 => ?_)
    · refine s_tabE o e7 dX11_endE_25 (r32 rfl) rfl rfl (tgt := 107) (by decide) ?_
      refine s_aload_n o dX11_endE_107 rfl 2 rfl ?_
      refine s_iload_n o dX11_endE_108 rfl 0 rfl ?_
      refine s_cv (d := d + 7) (C := "LazyForgeModel") (As := [vI v2]) (st := []) o (st_endBinding (mg Γ) d h hT v2 hv2) mw_X11_endBinding rfl (Or.inl (lw_all_tbl q3094)) (lw_all_tbl qs93) (lw_all_tbl q3096) (fun t => rc_t o hT t) wt_0 rfl dX11_endE_109 rfl (rs := fun _ => []) (fun _ => rfl) (fun _ _ => ?_)
      refine s_goto (tgt := 235) o dX11_endE_112 (by decide) ?_
      exact s_vret o rfl dX11_endE_235 (fun _ hh => hh)
    · refine s_case (P := True) (fun e8 => ?_) (fun e8 => ?_)
      · refine s_tabE o e8 dX11_endE_25 (r32 rfl) rfl rfl (tgt := 115) (by decide) ?_
        refine s_aload_n o dX11_endE_115 rfl 2 rfl ?_
        refine s_tga (x := 29) o hT tf_values ta_values (lw_all_tbl q2522) dX11_endE_116 ?_
        refine s_iload_n o dX11_endE_119 rfl 0 rfl ?_
        refine s_aload_n o dX11_endE_120 rfl 2 rfl ?_
        refine s_cv (d := d + 7) (C := "LazyForgeModel") (As := []) (st := [vI v2, vA (mg Γ) 29]) o (st_taken (mg Γ) (d + 7) h hT) mw_X11_taken rfl (Or.inl (lw_all_tbl q3075)) (lw_all_tbl qs89) (lw_all_tbl q3077) (fun t => rc_t o hT t) (wt_I (wt_A wt_0)) rfl dX11_endE_121 rfl (rs := fun r => [vI r, vI v2, vA (mg Γ) 29]) (fun _ => rfl) (fun v10 hv10 => ?_)
        refine r_tiast o hT tr_values hv2 (hv10 _ rfl) dX11_endE_124 ?_
        refine s_aload_n o dX11_endE_125 rfl 2 rfl ?_
        refine s_iload_n o dX11_endE_126 rfl 0 rfl ?_
        refine s_cv (d := d + 7) (C := "LazyForgeModel") (As := [vI v2]) (st := []) o (st_close (mg Γ) (d + 6) h hT v2 hv2) mw_X11_close rfl (Or.inl (lw_all_tbl q3098)) (lw_all_tbl qs94) (lw_all_tbl q3100) (fun t => rc_t o hT t) wt_0 rfl dX11_endE_127 rfl (rs := fun _ => []) (fun _ => rfl) (fun _ _ => ?_)
        refine s_goto (tgt := 235) o dX11_endE_130 (by decide) ?_
        exact s_vret o rfl dX11_endE_235 (fun _ hh => hh)
      · refine s_case (P := True) (fun e10 => ?_) (fun e10 => ?_)
        · refine s_tabE o e10 dX11_endE_25 (r32 rfl) rfl rfl (tgt := 133) (by decide) ?_
          refine s_aload_n o dX11_endE_133 rfl 2 rfl ?_
          refine s_tga (x := 25) o hT tf_firsts ta_firsts (lw_all_tbl q2518) dX11_endE_134 ?_
          refine s_iload_n o dX11_endE_137 rfl 0 rfl ?_
          refine s_aload_n o dX11_endE_138 rfl 2 rfl ?_
          refine s_cv (d := d + 7) (C := "LazyForgeModel") (As := []) (st := [vI v2, vA (mg Γ) 25]) o (st_taken (mg Γ) (d + 7) h hT) mw_X11_taken rfl (Or.inl (lw_all_tbl q3075)) (lw_all_tbl qs89) (lw_all_tbl q3077) (fun t => rc_t o hT t) (wt_I (wt_A wt_0)) rfl dX11_endE_139 rfl (rs := fun r => [vI r, vI v2, vA (mg Γ) 25]) (fun _ => rfl) (fun v12 hv12 => ?_)
          refine r_tiast o hT tr_firsts hv2 (hv12 _ rfl) dX11_endE_142 ?_
          refine s_aload_n o dX11_endE_143 rfl 2 rfl ?_
          refine s_iload_n o dX11_endE_144 rfl 0 rfl ?_
          refine s_cv (d := d + 7) (C := "LazyForgeModel") (As := [vI v2]) (st := []) o (st_close (mg Γ) (d + 6) h hT v2 hv2) mw_X11_close rfl (Or.inl (lw_all_tbl q3098)) (lw_all_tbl qs94) (lw_all_tbl q3100) (fun t => rc_t o hT t) wt_0 rfl dX11_endE_145 rfl (rs := fun _ => []) (fun _ => rfl) (fun _ _ => ?_)
          refine s_goto (tgt := 235) o dX11_endE_148 (by decide) ?_
          exact s_vret o rfl dX11_endE_235 (fun _ hh => hh)
        · refine s_case (P := True) (fun e12 => ?_) (fun e12 => ?_)
          · refine s_tabE o e12 dX11_endE_25 (r32 rfl) rfl rfl (tgt := 151) (by decide) ?_
            refine s_aload_n o dX11_endE_151 rfl 2 rfl ?_
            refine s_tga (x := 29) o hT tf_values ta_values (lw_all_tbl q2522) dX11_endE_152 ?_
            refine s_iload_n o dX11_endE_155 rfl 0 rfl ?_
            refine s_aload_n o dX11_endE_156 rfl 2 rfl ?_
            refine s_cv (d := d + 7) (C := "LazyForgeModel") (As := []) (st := [vI v2, vA (mg Γ) 29]) o (st_taken (mg Γ) (d + 7) h hT) mw_X11_taken rfl (Or.inl (lw_all_tbl q3075)) (lw_all_tbl qs89) (lw_all_tbl q3077) (fun t => rc_t o hT t) (wt_I (wt_A wt_0)) rfl dX11_endE_157 rfl (rs := fun r => [vI r, vI v2, vA (mg Γ) 29]) (fun _ => rfl) (fun v14 hv14 => ?_)
            refine r_tiast o hT tr_values hv2 (hv14 _ rfl) dX11_endE_160 ?_
            refine s_aload_n o dX11_endE_161 rfl 2 rfl ?_
            refine s_aload_n o dX11_endE_162 rfl 2 rfl ?_
            refine r_tgf vI rfl o hT tf_word tj_word (lw_all_tbl q2510) dX11_endE_163 (fun v15 hv15 => ?_)
            refine s_bipush o dX11_endE_166 rfl ?_
            refine s_icmp_ne (tgt := 175) o dX11_endE_168 (by decide) hv15 (r32 rfl) ?_ ?_
            · refine s_iconst o dX11_endE_175 ?_
              refine r_to [(0, vA (mg Γ) 21), (2, vI v2)] [2, 0] rfl ?_
              exact st_endE_176 hT o v2 0 hv2 (Or.inl rfl)
            · refine s_iconst o dX11_endE_171 ?_
              refine s_goto (tgt := 176) o dX11_endE_172 (by decide) ?_
              refine r_to [(0, vA (mg Γ) 21), (2, vI v2)] [2, 0] rfl ?_
              exact st_endE_176 hT o v2 1 hv2 (Or.inr rfl)
          · refine s_case (P := True) (fun e15 => ?_) (fun e15 => ?_)
            · refine s_tabE o e15 dX11_endE_25 (r32 rfl) rfl rfl (tgt := 197) (by decide) ?_
              refine s_aload_n o dX11_endE_197 rfl 2 rfl ?_
              refine s_iload_n o dX11_endE_198 rfl 0 rfl ?_
              refine s_cv (d := d + 7) (C := "LazyForgeModel") (As := [vI v2]) (st := []) o (st_endBranch (mg Γ) (d + 1) h hT v2 hv2) mw_X11_endBranch rfl (Or.inl (lw_all_tbl q3106)) (lw_all_tbl qs96) (lw_all_tbl q3108) (fun t => rc_t o hT t) wt_0 rfl dX11_endE_199 rfl (rs := fun _ => []) (fun _ => rfl) (fun _ _ => ?_)
              refine s_goto (tgt := 235) o dX11_endE_202 (by decide) ?_
              exact s_vret o rfl dX11_endE_235 (fun _ hh => hh)
            · refine s_tabOut o dX11_endE_25 hv3 (by omega) (tgt := 205) (by decide) ?_
              refine s_aload_n o dX11_endE_205 rfl 2 rfl ?_
              refine s_tga (x := 25) o hT tf_firsts ta_firsts (lw_all_tbl q2518) dX11_endE_206 ?_
              refine s_iload_n o dX11_endE_209 rfl 0 rfl ?_
              refine s_aload_n o dX11_endE_210 rfl 2 rfl ?_
              refine s_cv (d := d + 7) (C := "LazyForgeModel") (As := []) (st := [vI v2, vA (mg Γ) 25]) o (st_taken (mg Γ) (d + 7) h hT) mw_X11_taken rfl (Or.inl (lw_all_tbl q3075)) (lw_all_tbl qs89) (lw_all_tbl q3077) (fun t => rc_t o hT t) (wt_I (wt_A wt_0)) rfl dX11_endE_211 rfl (rs := fun r => [vI r, vI v2, vA (mg Γ) 25]) (fun _ => rfl) (fun v17 hv17 => ?_)
              refine r_tiast o hT tr_firsts hv2 (hv17 _ rfl) dX11_endE_214 ?_
              refine s_aload_n o dX11_endE_215 rfl 2 rfl ?_
              refine s_aload_n o dX11_endE_216 rfl 2 rfl ?_
              refine s_bipush o dX11_endE_217 rfl ?_
              refine s_cv (d := d + 7) (C := "LazyForgeModel") (As := [vI 59]) (st := [vA (mg Γ) 21]) o (st_isSign (mg Γ) (d + 7) h hT 59 (r32 rfl)) mw_X11_isSign rfl (Or.inl (lw_all_tbl q2987)) (lw_all_tbl qs67) (lw_all_tbl q2989) (fun t => rc_t o hT t) (wt_A wt_0) rfl dX11_endE_219 rfl (rs := fun r => [vI r, vA (mg Γ) 21]) (fun _ => rfl) (fun v18 hv18 => ?_)
              refine s_cv (d := d + 7) (C := "LazyForgeModel") (As := [vI v18]) (st := []) o (st_accept (mg Γ) (d + 3) h hT v18 (hv18 _ rfl)) mw_X11_accept rfl (Or.inl (lw_all_tbl q2979)) (lw_all_tbl qs65) (lw_all_tbl q2981) (fun t => rc_t o hT t) wt_0 rfl dX11_endE_222 rfl (rs := fun _ => []) (fun _ => rfl) (fun _ _ => ?_)
              refine s_aload_n o dX11_endE_225 rfl 2 rfl ?_
              refine s_dup o dX11_endE_226 (vA_cat (mg Γ) 21) ?_
              refine r_tgf vI rfl o hT tf_piled tj_piled (lw_all_tbl q2539) dX11_endE_227 (fun v19 hv19 => ?_)
              refine s_iconst o dX11_endE_230 ?_
              refine s_isub o dX11_endE_231 ?_
              refine r_tpf vI rfl o hT tf_piled tj_piled (lw_all_tbl q2539) dX11_endE_232 (w32_R _) ty_int ?_
              exact s_vret o rfl dX11_endE_235 (fun _ hh => hh)
theorem dX11_workOut_0 : decode cX11_workOut 0 = .ok (.aload_n 0, 1) := by decide +kernel
theorem dX11_workOut_1 : decode cX11_workOut 1 = .ok (.iconst 0, 1) := by decide +kernel
theorem dX11_workOut_2 : decode cX11_workOut 2 = .ok (.putfield 611, 3) := by decide +kernel
theorem dX11_workOut_5 : decode cX11_workOut 5 = .ok (.aload_n 0, 1) := by decide +kernel
theorem dX11_workOut_6 : decode cX11_workOut 6 = .ok (.iconst 0, 1) := by decide +kernel
theorem dX11_workOut_7 : decode cX11_workOut 7 = .ok (.putfield 724, 3) := by decide +kernel
theorem dX11_workOut_10 : decode cX11_workOut 10 = .ok (.aload_n 0, 1) := by decide +kernel
theorem dX11_workOut_11 : decode cX11_workOut 11 = .ok (.iconst 0, 1) := by decide +kernel
theorem dX11_workOut_12 : decode cX11_workOut 12 = .ok (.putfield 614, 3) := by decide +kernel
theorem dX11_workOut_15 : decode cX11_workOut 15 = .ok (.aload_n 0, 1) := by decide +kernel
theorem dX11_workOut_16 : decode cX11_workOut 16 = .ok (.iconst 0, 1) := by decide +kernel
theorem dX11_workOut_17 : decode cX11_workOut 17 = .ok (.putfield 682, 3) := by decide +kernel
theorem dX11_workOut_20 : decode cX11_workOut 20 = .ok (.aload_n 0, 1) := by decide +kernel
theorem dX11_workOut_21 : decode cX11_workOut 21 = .ok (.lload_n 1, 1) := by decide +kernel
theorem dX11_workOut_22 : decode cX11_workOut 22 = .ok (.invokevirtual 700, 3) := by decide +kernel
theorem dX11_workOut_25 : decode cX11_workOut 25 = .ok (.aload_n 0, 1) := by decide +kernel
theorem dX11_workOut_26 : decode cX11_workOut 26 = .ok (.getfield 605, 3) := by decide +kernel
theorem dX11_workOut_29 : decode cX11_workOut 29 = .ok (.ifCond .ne 38, 3) := by decide +kernel
theorem dX11_workOut_32 : decode cX11_workOut 32 = .ok (.aload_n 0, 1) := by decide +kernel
theorem dX11_workOut_33 : decode cX11_workOut 33 = .ok (.getfield 620, 3) := by decide +kernel
theorem dX11_workOut_36 : decode cX11_workOut 36 = .ok (.ifCond .eq 10, 3) := by decide +kernel
theorem dX11_workOut_39 : decode cX11_workOut 39 = .ok (.aload_n 0, 1) := by decide +kernel
theorem dX11_workOut_40 : decode cX11_workOut 40 = .ok (.getfield 611, 3) := by decide +kernel
theorem dX11_workOut_43 : decode cX11_workOut 43 = .ok (.ifCond .le 24, 3) := by decide +kernel
theorem dX11_workOut_46 : decode cX11_workOut 46 = .ok (.aload_n 0, 1) := by decide +kernel
theorem dX11_workOut_47 : decode cX11_workOut 47 = .ok (.getfield 620, 3) := by decide +kernel
theorem dX11_workOut_50 : decode cX11_workOut 50 = .ok (.ifCond .eq 10, 3) := by decide +kernel
theorem dX11_workOut_53 : decode cX11_workOut 53 = .ok (.aload_n 0, 1) := by decide +kernel
theorem dX11_workOut_54 : decode cX11_workOut 54 = .ok (.invokevirtual 754, 3) := by decide +kernel
theorem dX11_workOut_57 : decode cX11_workOut 57 = .ok (.goto (-32), 3) := by decide +kernel
theorem dX11_workOut_60 : decode cX11_workOut 60 = .ok (.aload_n 0, 1) := by decide +kernel
theorem dX11_workOut_61 : decode cX11_workOut 61 = .ok (.invokevirtual 757, 3) := by decide +kernel
theorem dX11_workOut_64 : decode cX11_workOut 64 = .ok (.goto (-39), 3) := by decide +kernel
theorem dX11_workOut_67 : decode cX11_workOut 67 = .ok (.return_, 1) := by decide +kernel
theorem mw_X11_workOut : MW yX11_workOut (Cond.code yX11_workOut cX11_workOut 3 (Option.none : Option Jvm.ClassFile.FieldType)) cX11_workOut 3 (Option.none : Option Jvm.ClassFile.FieldType) 1 := ⟨rfl, ⟨(lw_all_tbl q3249), rfl, (lw_all_tbl q173)⟩, rfl, ⟨by decide, by decide⟩, by decide +kernel⟩
abbrev okt_workOut_25 (x : Unit) : Prop := True
abbrev lvt_workOut_25 (Γ : Gm) (x : Unit) : List (Nat × Value) := [(0, vA (mg Γ) 21)]
noncomputable def t_workOut_46 {A : Type} (k_67 : Mo TS A) : Mo TS ((Unit) ⊕ A) :=
  bnd (gs 126) fun v1 =>
  if v1 = 0 then
    bnd (t_workPart) fun _ =>
    pr (.inl ())
  else
    bnd (t_goOn) fun _ =>
    pr (.inl ())
theorem st_workOut_46 {Γ : Gm} {h : CH} {d : Nat} (hT : HT h) (o : Ok Γ "LazyForgeModel" cX11_workOut 3 (Option.none : Option Jvm.ClassFile.FieldType) (d + 8)) {A : Type} {K : A → TS → Prop}  (k_67 : Mo TS A) (hk_67 : Sx Γ (fun t => (h, t)) K 67 [] [] (k_67)) : Sx Γ (fun t => (h, t)) (KL Γ (fun t => (h, t)) okt_workOut_25 K 25 (lvt_workOut_25 Γ) []) 46 [(0, vA (mg Γ) 21)] [] (t_workOut_46 k_67) := by
  unfold t_workOut_46
  refine s_aload_n o dX11_workOut_46 rfl 0 rfl ?_
  refine r_tgf vI rfl o hT tf_has0 tj_has0 (lw_all_tbl q2630) dX11_workOut_47 (fun v1 hv1 => ?_)
  refine s_if_eq (tgt := 60) o dX11_workOut_50 (by decide) (rZ hv1) ?_ ?_
  · refine s_aload_n o dX11_workOut_60 rfl 0 rfl ?_
    refine s_cv (d := d + 7) (C := "LazyForgeModel") (As := []) (st := []) o (st_workPart (mg Γ) d h hT) mw_X11_workPart rfl (Or.inl (lw_all_tbl q3332)) (lw_all_tbl qs146) (lw_all_tbl q3334) (fun t => rc_t o hT t) wt_0 rfl dX11_workOut_61 rfl (rs := fun _ => []) (fun _ => rfl) (fun _ _ => ?_)
    refine s_goto (tgt := 25) o dX11_workOut_64 (by decide) ?_
    exact s_back trivial rfl
  · refine s_aload_n o dX11_workOut_53 rfl 0 rfl ?_
    refine s_cv (d := d + 7) (C := "LazyForgeModel") (As := []) (st := []) o (st_goOn (mg Γ) (d + 1) h hT) mw_X11_goOn rfl (Or.inl (lw_all_tbl q3276)) (lw_all_tbl qs133) (lw_all_tbl q3278) (fun t => rc_t o hT t) wt_0 rfl dX11_workOut_54 rfl (rs := fun _ => []) (fun _ => rfl) (fun _ _ => ?_)
    refine s_goto (tgt := 25) o dX11_workOut_57 (by decide) ?_
    exact s_back trivial rfl
noncomputable def t_workOut_25b {A : Type} (k_67 : Mo TS A) : Mo TS ((Unit) ⊕ A) :=
  bnd (gs 111) fun v1 =>
  if ¬ v1 = 0 then
    lo k_67
  else
    bnd (gs 126) fun v2 =>
    if v2 = 0 then
      t_workOut_46 k_67
    else
      bnd (gs 116) fun v3 =>
      if v3 ≤ 0 then
        lo k_67
      else
        t_workOut_46 k_67
theorem st_workOut_25b {Γ : Gm} {h : CH} {d : Nat} (hT : HT h) (o : Ok Γ "LazyForgeModel" cX11_workOut 3 (Option.none : Option Jvm.ClassFile.FieldType) (d + 8)) {A : Type} {K : A → TS → Prop} (k_67 : Mo TS A) (hk_67 : Sx Γ (fun t => (h, t)) K 67 [] [] (k_67)) : Sx Γ (fun t => (h, t)) (KL Γ (fun t => (h, t)) okt_workOut_25 K 25 (lvt_workOut_25 Γ) []) 25 [(0, vA (mg Γ) 21)] [] (t_workOut_25b k_67) := by
  unfold t_workOut_25b
  refine s_aload_n o dX11_workOut_25 rfl 0 rfl ?_
  refine r_tgf vI rfl o hT tf_how tj_how (lw_all_tbl q2615) dX11_workOut_26 (fun v1 hv1 => ?_)
  refine s_if_ne (tgt := 67) o dX11_workOut_29 (by decide) hv1 ?_ ?_
  · refine r_to [] [] rfl ?_
    exact s_lo hk_67
  · refine s_aload_n o dX11_workOut_32 rfl 0 rfl ?_
    refine r_tgf vI rfl o hT tf_has0 tj_has0 (lw_all_tbl q2630) dX11_workOut_33 (fun v2 hv2 => ?_)
    refine s_if_eq (tgt := 46) o dX11_workOut_36 (by decide) (rZ hv2) ?_ ?_
    · exact st_workOut_46 hT o k_67 hk_67
    · refine s_aload_n o dX11_workOut_39 rfl 0 rfl ?_
      refine r_tgf vI rfl o hT tf_waiting tj_waiting (lw_all_tbl q2620) dX11_workOut_40 (fun v3 hv3 => ?_)
      refine s_if_le (tgt := 67) o dX11_workOut_43 (by decide) hv3 ?_ ?_
      · refine r_to [] [] rfl ?_
        exact s_lo hk_67
      · exact st_workOut_46 hT o k_67 hk_67
noncomputable def t_workOut_25 {A : Type} (k_67 : Mo TS A) : Mo TS A := Loop (fun x => t_workOut_25b k_67) ()
theorem st_workOut_25 {Γ : Gm} {h : CH} {d : Nat} (hT : HT h) (o : Ok Γ "LazyForgeModel" cX11_workOut 3 (Option.none : Option Jvm.ClassFile.FieldType) (d + 8)) {A : Type} {K : A → TS → Prop} (k_67 : Mo TS A) (hk_67 : Sx Γ (fun t => (h, t)) K 67 [] [] (k_67)) : Sx Γ (fun t => (h, t)) K 25 [(0, vA (mg Γ) 21)] [] (t_workOut_25 k_67) :=
  s_loop okt_workOut_25 (lvt_workOut_25 Γ) (fun x hx => st_workOut_25b hT o k_67 hk_67) (x := ()) trivial
noncomputable def t_workOut (l1 : Int) : Mo TS Int :=
  bnd (ss 116 0) fun _ =>
  bnd (ss 120 0) fun _ =>
  bnd (ss 122 0) fun _ =>
  bnd (ss 123 0) fun _ =>
  bnd (t_enter l1) fun _ =>
  t_workOut_25
    (pr 0)
theorem st_workOut (g : gC) (d : Nat) (h : CH) (hT : HT h) (l1 : Int) (hl1 : R64 l1) : SF g yX11_workOut (Cond.code yX11_workOut cX11_workOut 3 (Option.none : Option Jvm.ClassFile.FieldType)) (Option.none : Option Jvm.ClassFile.FieldType) (d + 8) [vA g 21, vJ l1] (fun t => (h, t)) (t_workOut l1) := by
  refine SF.of (lv := [(0, vA g 21), (1, vJ l1)]) (by decide) (wt_A (wt_J wt_0)) rfl (by simp only [la_A, la_I, la_J, la_0]) (fun Γ hg hnm o => ?_)
  subst hg
  have o : Ok Γ "LazyForgeModel" cX11_workOut 3 (Option.none : Option Jvm.ClassFile.FieldType) (d + 8) := o
  unfold t_workOut
  refine s_aload_n o dX11_workOut_0 rfl 0 rfl ?_
  refine s_iconst o dX11_workOut_1 ?_
  refine r_tpf vI rfl o hT tf_waiting tj_waiting (lw_all_tbl q2620) dX11_workOut_2 (r32 rfl) ty_int ?_
  refine s_aload_n o dX11_workOut_5 rfl 0 rfl ?_
  refine s_iconst o dX11_workOut_6 ?_
  refine r_tpf vI rfl o hT tf_top tj_top (lw_all_tbl q2624) dX11_workOut_7 (r32 rfl) ty_int ?_
  refine s_aload_n o dX11_workOut_10 rfl 0 rfl ?_
  refine s_iconst o dX11_workOut_11 ?_
  refine r_tpf vI rfl o hT tf_base tj_base (lw_all_tbl q2626) dX11_workOut_12 (r32 rfl) ty_int ?_
  refine s_aload_n o dX11_workOut_15 rfl 0 rfl ?_
  refine s_iconst o dX11_workOut_16 ?_
  refine r_tpf vI rfl o hT tf_localTop tj_localTop (lw_all_tbl q2627) dX11_workOut_17 (r32 rfl) ty_int ?_
  refine s_aload_n o dX11_workOut_20 rfl 0 rfl ?_
  refine s_lload_n o dX11_workOut_21 rfl 1 rfl ?_
  refine s_cv (d := d + 7) (C := "LazyForgeModel") (As := [vJ l1]) (st := []) o (st_enter (mg Γ) (d + 5) h hT l1 hl1) mw_X11_enter rfl (Or.inl (lw_all_tbl q3250)) (lw_all_tbl qs128) (lw_all_tbl q3252) (fun t => rc_t o hT t) wt_0 rfl dX11_workOut_22 rfl (rs := fun _ => []) (fun _ => rfl) (fun _ _ => ?_)
  refine r_to [(0, vA (mg Γ) 21)] [0] rfl ?_
  refine st_workOut_25 hT o _ ?_
  · exact s_vret o rfl dX11_workOut_67 (fun _ hh => hh)
theorem dX11_readE_0 : decode cX11_readE 0 = .ok (.aload_n 0, 1) := by decide +kernel
theorem dX11_readE_1 : decode cX11_readE 1 = .ok (.iconst 0, 1) := by decide +kernel
theorem dX11_readE_2 : decode cX11_readE 2 = .ok (.iload_n 1, 1) := by decide +kernel
theorem dX11_readE_3 : decode cX11_readE 3 = .ok (.iconst 0, 1) := by decide +kernel
theorem dX11_readE_4 : decode cX11_readE 4 = .ok (.invokevirtual 372, 3) := by decide +kernel
theorem dX11_readE_7 : decode cX11_readE 7 = .ok (.aload_n 0, 1) := by decide +kernel
theorem dX11_readE_8 : decode cX11_readE 8 = .ok (.iconst 1, 1) := by decide +kernel
theorem dX11_readE_9 : decode cX11_readE 9 = .ok (.putfield 389, 3) := by decide +kernel
theorem dX11_readE_12 : decode cX11_readE 12 = .ok (.aload_n 0, 1) := by decide +kernel
theorem dX11_readE_13 : decode cX11_readE 13 = .ok (.iconst 1, 1) := by decide +kernel
theorem dX11_readE_14 : decode cX11_readE 14 = .ok (.putfield 393, 3) := by decide +kernel
theorem dX11_readE_17 : decode cX11_readE 17 = .ok (.aload_n 0, 1) := by decide +kernel
theorem dX11_readE_18 : decode cX11_readE 18 = .ok (.iconst 1, 1) := by decide +kernel
theorem dX11_readE_19 : decode cX11_readE 19 = .ok (.putfield 424, 3) := by decide +kernel
theorem dX11_readE_22 : decode cX11_readE 22 = .ok (.aload_n 0, 1) := by decide +kernel
theorem dX11_readE_23 : decode cX11_readE 23 = .ok (.getfield 311, 3) := by decide +kernel
theorem dX11_readE_26 : decode cX11_readE 26 = .ok (.ifCond .ne 91, 3) := by decide +kernel
theorem dX11_readE_29 : decode cX11_readE 29 = .ok (.aload_n 0, 1) := by decide +kernel
theorem dX11_readE_30 : decode cX11_readE 30 = .ok (.getfield 342, 3) := by decide +kernel
theorem dX11_readE_33 : decode cX11_readE 33 = .ok (.ifCond .le 84, 3) := by decide +kernel
theorem dX11_readE_36 : decode cX11_readE 36 = .ok (.aload_n 0, 1) := by decide +kernel
theorem dX11_readE_37 : decode cX11_readE 37 = .ok (.getfield 389, 3) := by decide +kernel
theorem dX11_readE_40 : decode cX11_readE 40 = .ok (.ifCond .eq 10, 3) := by decide +kernel
theorem dX11_readE_43 : decode cX11_readE 43 = .ok (.aload_n 0, 1) := by decide +kernel
theorem dX11_readE_44 : decode cX11_readE 44 = .ok (.invokevirtual 445, 3) := by decide +kernel
theorem dX11_readE_47 : decode cX11_readE 47 = .ok (.goto (-25), 3) := by decide +kernel
theorem dX11_readE_50 : decode cX11_readE 50 = .ok (.aload_n 0, 1) := by decide +kernel
theorem dX11_readE_51 : decode cX11_readE 51 = .ok (.getfield 424, 3) := by decide +kernel
theorem dX11_readE_54 : decode cX11_readE 54 = .ok (.ifCond .ne 10, 3) := by decide +kernel
theorem dX11_readE_57 : decode cX11_readE 57 = .ok (.aload_n 0, 1) := by decide +kernel
theorem dX11_readE_58 : decode cX11_readE 58 = .ok (.invokevirtual 448, 3) := by decide +kernel
theorem dX11_readE_61 : decode cX11_readE 61 = .ok (.goto (-39), 3) := by decide +kernel
theorem dX11_readE_64 : decode cX11_readE 64 = .ok (.aload_n 0, 1) := by decide +kernel
theorem dX11_readE_65 : decode cX11_readE 65 = .ok (.getfield 286, 3) := by decide +kernel
theorem dX11_readE_68 : decode cX11_readE 68 = .ok (.invokestatic 427, 3) := by decide +kernel
theorem dX11_readE_71 : decode cX11_readE 71 = .ok (.ifCond .le 17, 3) := by decide +kernel
theorem dX11_readE_74 : decode cX11_readE 74 = .ok (.aload_n 0, 1) := by decide +kernel
theorem dX11_readE_75 : decode cX11_readE 75 = .ok (.getfield 405, 3) := by decide +kernel
theorem dX11_readE_78 : decode cX11_readE 78 = .ok (.ifCond .eq 10, 3) := by decide +kernel
theorem dX11_readE_81 : decode cX11_readE 81 = .ok (.aload_n 0, 1) := by decide +kernel
theorem dX11_readE_82 : decode cX11_readE 82 = .ok (.invokevirtual 324, 3) := by decide +kernel
theorem dX11_readE_85 : decode cX11_readE 85 = .ok (.goto (-63), 3) := by decide +kernel
theorem dX11_readE_88 : decode cX11_readE 88 = .ok (.aload_n 0, 1) := by decide +kernel
theorem dX11_readE_89 : decode cX11_readE 89 = .ok (.getfield 286, 3) := by decide +kernel
theorem dX11_readE_92 : decode cX11_readE 92 = .ok (.invokestatic 427, 3) := by decide +kernel
theorem dX11_readE_95 : decode cX11_readE 95 = .ok (.ifCond .le 10, 3) := by decide +kernel
theorem dX11_readE_98 : decode cX11_readE 98 = .ok (.aload_n 0, 1) := by decide +kernel
theorem dX11_readE_99 : decode cX11_readE 99 = .ok (.invokevirtual 451, 3) := by decide +kernel
theorem dX11_readE_102 : decode cX11_readE 102 = .ok (.goto (-80), 3) := by decide +kernel
theorem dX11_readE_105 : decode cX11_readE 105 = .ok (.aload_n 0, 1) := by decide +kernel
theorem dX11_readE_106 : decode cX11_readE 106 = .ok (.iconst 1, 1) := by decide +kernel
theorem dX11_readE_107 : decode cX11_readE 107 = .ok (.putfield 424, 3) := by decide +kernel
theorem dX11_readE_110 : decode cX11_readE 110 = .ok (.aload_n 0, 1) := by decide +kernel
theorem dX11_readE_111 : decode cX11_readE 111 = .ok (.invokevirtual 454, 3) := by decide +kernel
theorem dX11_readE_114 : decode cX11_readE 114 = .ok (.goto (-92), 3) := by decide +kernel
theorem dX11_readE_117 : decode cX11_readE 117 = .ok (.return_, 1) := by decide +kernel
theorem mw_X11_readE : MW yX11_readE (Cond.code yX11_readE cX11_readE 2 (Option.none : Option Jvm.ClassFile.FieldType)) cX11_readE 2 (Option.none : Option Jvm.ClassFile.FieldType) 1 := ⟨rfl, ⟨(lw_all_tbl q3018), rfl, (lw_all_tbl q173)⟩, rfl, ⟨by decide, by decide⟩, by decide +kernel⟩
abbrev okt_readE_22 (x : Unit) : Prop := True
abbrev lvt_readE_22 (Γ : Gm) (x : Unit) : List (Nat × Value) := [(0, vA (mg Γ) 21)]
noncomputable def t_readE_88 {A : Type} (k_117 : Mo TS A) : Mo TS ((Unit) ⊕ A) :=
  bnd (gs 6) fun v1 =>
  bnd (t_rank v1) fun v2 =>
  if v2 ≤ 0 then
    bnd (ss 44 1) fun _ =>
    bnd (t_endE) fun _ =>
    pr (.inl ())
  else
    bnd (t_signE) fun _ =>
    pr (.inl ())
theorem st_readE_88 {Γ : Gm} {h : CH} {d : Nat} (hT : HT h) (o : Ok Γ "LazyForgeModel" cX11_readE 2 (Option.none : Option Jvm.ClassFile.FieldType) (d + 9)) {A : Type} {K : A → TS → Prop}  (k_117 : Mo TS A) (hk_117 : Sx Γ (fun t => (h, t)) K 117 [] [] (k_117)) : Sx Γ (fun t => (h, t)) (KL Γ (fun t => (h, t)) okt_readE_22 K 22 (lvt_readE_22 Γ) []) 88 [(0, vA (mg Γ) 21)] [] (t_readE_88 k_117) := by
  unfold t_readE_88
  refine s_aload_n o dX11_readE_88 rfl 0 rfl ?_
  refine r_tgf vI rfl o hT tf_word tj_word (lw_all_tbl q2510) dX11_readE_89 (fun v1 hv1 => ?_)
  refine s_cs (d := d + 8) (As := [vI v1]) (st := []) o (st_rank (mg Γ) (d + 8) h v1 hv1) mw_X11_rank rfl (Or.inl (lw_all_tbl q3079)) (lw_all_tbl q3080) wt_0 rfl dX11_readE_92 rfl (rs := fun r => [vI r]) (fun _ => rfl) (fun v2 hv2 => ?_)
  refine s_if_le (tgt := 105) o dX11_readE_95 (by decide) (hv2 _ rfl) ?_ ?_
  · refine s_aload_n o dX11_readE_105 rfl 0 rfl ?_
    refine s_iconst o dX11_readE_106 ?_
    refine r_tpf vI rfl o hT tf_isApplied tj_isApplied (lw_all_tbl q2548) dX11_readE_107 (Or.inr rfl) ty_boolean ?_
    refine s_aload_n o dX11_readE_110 rfl 0 rfl ?_
    refine s_cv (d := d + 8) (C := "LazyForgeModel") (As := []) (st := []) o (st_endE (mg Γ) d h hT) mw_X11_endE rfl (Or.inl (lw_all_tbl q3090)) (lw_all_tbl qs92) (lw_all_tbl q3092) (fun t => rc_t o hT t) wt_0 rfl dX11_readE_111 rfl (rs := fun _ => []) (fun _ => rfl) (fun _ _ => ?_)
    refine s_goto (tgt := 22) o dX11_readE_114 (by decide) ?_
    exact s_back trivial rfl
  · refine s_aload_n o dX11_readE_98 rfl 0 rfl ?_
    refine s_cv (d := d + 8) (C := "LazyForgeModel") (As := []) (st := []) o (st_signE (mg Γ) (d + 3) h hT) mw_X11_signE rfl (Or.inl (lw_all_tbl q3082)) (lw_all_tbl qs90) (lw_all_tbl q3084) (fun t => rc_t o hT t) wt_0 rfl dX11_readE_99 rfl (rs := fun _ => []) (fun _ => rfl) (fun _ _ => ?_)
    refine s_goto (tgt := 22) o dX11_readE_102 (by decide) ?_
    exact s_back trivial rfl
noncomputable def t_readE_22b {A : Type} (k_117 : Mo TS A) : Mo TS ((Unit) ⊕ A) :=
  bnd (gs 10) fun v1 =>
  if ¬ v1 = 0 then
    lo k_117
  else
    bnd (gs 35) fun v2 =>
    if v2 ≤ 0 then
      lo k_117
    else
      bnd (gs 43) fun v3 =>
      if v3 = 0 then
        bnd (gs 44) fun v4 =>
        if ¬ v4 = 0 then
          bnd (gs 6) fun v5 =>
          bnd (t_rank v5) fun v6 =>
          if v6 ≤ 0 then
            t_readE_88 k_117
          else
            bnd (gs 45) fun v7 =>
            if v7 = 0 then
              t_readE_88 k_117
            else
              bnd (t_wrong) fun _ =>
              pr (.inl ())
        else
          bnd (t_atomEnds) fun _ =>
          pr (.inl ())
      else
        bnd (t_wantE) fun _ =>
        pr (.inl ())
theorem st_readE_22b {Γ : Gm} {h : CH} {d : Nat} (hT : HT h) (o : Ok Γ "LazyForgeModel" cX11_readE 2 (Option.none : Option Jvm.ClassFile.FieldType) (d + 9)) {A : Type} {K : A → TS → Prop} (k_117 : Mo TS A) (hk_117 : Sx Γ (fun t => (h, t)) K 117 [] [] (k_117)) : Sx Γ (fun t => (h, t)) (KL Γ (fun t => (h, t)) okt_readE_22 K 22 (lvt_readE_22 Γ) []) 22 [(0, vA (mg Γ) 21)] [] (t_readE_22b k_117) := by
  unfold t_readE_22b
  refine s_aload_n o dX11_readE_22 rfl 0 rfl ?_
  refine r_tgf vI rfl o hT tf_fault tj_fault (lw_all_tbl q2514) dX11_readE_23 (fun v1 hv1 => ?_)
  refine s_if_ne (tgt := 117) o dX11_readE_26 (by decide) hv1 ?_ ?_
  · refine r_to [] [] rfl ?_
    exact s_lo hk_117
  · refine s_aload_n o dX11_readE_29 rfl 0 rfl ?_
    refine r_tgf vI rfl o hT tf_piled tj_piled (lw_all_tbl q2539) dX11_readE_30 (fun v2 hv2 => ?_)
    refine s_if_le (tgt := 117) o dX11_readE_33 (by decide) hv2 ?_ ?_
    · refine r_to [] [] rfl ?_
      exact s_lo hk_117
    · refine s_aload_n o dX11_readE_36 rfl 0 rfl ?_
      refine r_tgf vI rfl o hT tf_wants tj_wants (lw_all_tbl q2547) dX11_readE_37 (fun v3 hv3 => ?_)
      refine s_if_eq (tgt := 50) o dX11_readE_40 (by decide) (rZ hv3) ?_ ?_
      · refine s_aload_n o dX11_readE_50 rfl 0 rfl ?_
        refine r_tgf vI rfl o hT tf_isApplied tj_isApplied (lw_all_tbl q2548) dX11_readE_51 (fun v4 hv4 => ?_)
        refine s_if_ne (tgt := 64) o dX11_readE_54 (by decide) (rZ hv4) ?_ ?_
        · refine s_aload_n o dX11_readE_64 rfl 0 rfl ?_
          refine r_tgf vI rfl o hT tf_word tj_word (lw_all_tbl q2510) dX11_readE_65 (fun v5 hv5 => ?_)
          refine s_cs (d := d + 8) (As := [vI v5]) (st := []) o (st_rank (mg Γ) (d + 8) h v5 hv5) mw_X11_rank rfl (Or.inl (lw_all_tbl q3079)) (lw_all_tbl q3080) wt_0 rfl dX11_readE_68 rfl (rs := fun r => [vI r]) (fun _ => rfl) (fun v6 hv6 => ?_)
          refine s_if_le (tgt := 88) o dX11_readE_71 (by decide) (hv6 _ rfl) ?_ ?_
          · exact st_readE_88 hT o k_117 hk_117
          · refine s_aload_n o dX11_readE_74 rfl 0 rfl ?_
            refine r_tgf vI rfl o hT tf_isEnded tj_isEnded (lw_all_tbl q2549) dX11_readE_75 (fun v7 hv7 => ?_)
            refine s_if_eq (tgt := 88) o dX11_readE_78 (by decide) (rZ hv7) ?_ ?_
            · exact st_readE_88 hT o k_117 hk_117
            · refine s_aload_n o dX11_readE_81 rfl 0 rfl ?_
              refine s_cv (d := d + 8) (C := "LazyForgeModel") (As := []) (st := []) o (st_wrong (mg Γ) (d + 7) h hT) mw_X11_wrong rfl (Or.inl (lw_all_tbl q2983)) (lw_all_tbl qs66) (lw_all_tbl q2985) (fun t => rc_t o hT t) wt_0 rfl dX11_readE_82 rfl (rs := fun _ => []) (fun _ => rfl) (fun _ _ => ?_)
              refine s_goto (tgt := 22) o dX11_readE_85 (by decide) ?_
              exact s_back trivial rfl
        · refine s_aload_n o dX11_readE_57 rfl 0 rfl ?_
          refine s_cv (d := d + 8) (C := "LazyForgeModel") (As := []) (st := []) o (st_atomEnds (mg Γ) (d + 1) h hT) mw_X11_atomEnds rfl (Or.inl (lw_all_tbl q3071)) (lw_all_tbl qs88) (lw_all_tbl q3073) (fun t => rc_t o hT t) wt_0 rfl dX11_readE_58 rfl (rs := fun _ => []) (fun _ => rfl) (fun _ _ => ?_)
          refine s_goto (tgt := 22) o dX11_readE_61 (by decide) ?_
          exact s_back trivial rfl
      · refine s_aload_n o dX11_readE_43 rfl 0 rfl ?_
        refine s_cv (d := d + 8) (C := "LazyForgeModel") (As := []) (st := []) o (st_wantE (mg Γ) d h hT) mw_X11_wantE rfl (Or.inl (lw_all_tbl q3023)) (lw_all_tbl qs76) (lw_all_tbl q3025) (fun t => rc_t o hT t) wt_0 rfl dX11_readE_44 rfl (rs := fun _ => []) (fun _ => rfl) (fun _ _ => ?_)
        refine s_goto (tgt := 22) o dX11_readE_47 (by decide) ?_
        exact s_back trivial rfl
noncomputable def t_readE_22 {A : Type} (k_117 : Mo TS A) : Mo TS A := Loop (fun x => t_readE_22b k_117) ()
theorem st_readE_22 {Γ : Gm} {h : CH} {d : Nat} (hT : HT h) (o : Ok Γ "LazyForgeModel" cX11_readE 2 (Option.none : Option Jvm.ClassFile.FieldType) (d + 9)) {A : Type} {K : A → TS → Prop} (k_117 : Mo TS A) (hk_117 : Sx Γ (fun t => (h, t)) K 117 [] [] (k_117)) : Sx Γ (fun t => (h, t)) K 22 [(0, vA (mg Γ) 21)] [] (t_readE_22 k_117) :=
  s_loop okt_readE_22 (lvt_readE_22 Γ) (fun x hx => st_readE_22b hT o k_117 hk_117) (x := ()) trivial
noncomputable def t_readE (l1 : Int) : Mo TS Int :=
  bnd (t_pile 0 l1 0) fun _ =>
  bnd (ss 43 1) fun _ =>
  bnd (ss 42 1) fun _ =>
  bnd (ss 44 1) fun _ =>
  t_readE_22
    (pr 0)
theorem st_readE (g : gC) (d : Nat) (h : CH) (hT : HT h) (l1 : Int) (hl1 : R32 l1) : SF g yX11_readE (Cond.code yX11_readE cX11_readE 2 (Option.none : Option Jvm.ClassFile.FieldType)) (Option.none : Option Jvm.ClassFile.FieldType) (d + 9) [vA g 21, vI l1] (fun t => (h, t)) (t_readE l1) := by
  refine SF.of (lv := [(0, vA g 21), (1, vI l1)]) (by decide) (wt_A (wt_I wt_0)) rfl (by simp only [la_A, la_I, la_J, la_0]) (fun Γ hg hnm o => ?_)
  subst hg
  have o : Ok Γ "LazyForgeModel" cX11_readE 2 (Option.none : Option Jvm.ClassFile.FieldType) (d + 9) := o
  unfold t_readE
  refine s_aload_n o dX11_readE_0 rfl 0 rfl ?_
  refine s_iconst o dX11_readE_1 ?_
  refine s_iload_n o dX11_readE_2 rfl 1 rfl ?_
  refine s_iconst o dX11_readE_3 ?_
  refine s_cv (d := d + 8) (C := "LazyForgeModel") (As := [vI 0, vI l1, vI 0]) (st := []) o (st_pile (mg Γ) (d + 8) h hT 0 l1 0 (r32 rfl) hl1 (r32 rfl)) mw_X11_pile rfl (Or.inl (lw_all_tbl q3019)) (lw_all_tbl qs75) (lw_all_tbl q3021) (fun t => rc_t o hT t) wt_0 rfl dX11_readE_4 rfl (rs := fun _ => []) (fun _ => rfl) (fun _ _ => ?_)
  refine s_aload_n o dX11_readE_7 rfl 0 rfl ?_
  refine s_iconst o dX11_readE_8 ?_
  refine r_tpf vI rfl o hT tf_wants tj_wants (lw_all_tbl q2547) dX11_readE_9 (Or.inr rfl) ty_boolean ?_
  refine s_aload_n o dX11_readE_12 rfl 0 rfl ?_
  refine s_iconst o dX11_readE_13 ?_
  refine r_tpf vI rfl o hT tf_startsE tj_startsE (lw_all_tbl q2546) dX11_readE_14 (Or.inr rfl) ty_boolean ?_
  refine s_aload_n o dX11_readE_17 rfl 0 rfl ?_
  refine s_iconst o dX11_readE_18 ?_
  refine r_tpf vI rfl o hT tf_isApplied tj_isApplied (lw_all_tbl q2548) dX11_readE_19 (Or.inr rfl) ty_boolean ?_
  refine r_to [(0, vA (mg Γ) 21)] [0] rfl ?_
  refine st_readE_22 hT o _ ?_
  · exact s_vret o rfl dX11_readE_117 (fun _ hh => hh)
theorem dX11_run_0 : decode cX11_run 0 = .ok (.aload_n 0, 1) := by decide +kernel
theorem dX11_run_1 : decode cX11_run 1 = .ok (.getfield 736, 3) := by decide +kernel
theorem dX11_run_4 : decode cX11_run 4 = .ok (.ldc_w 770, 3) := by decide +kernel
theorem dX11_run_7 : decode cX11_run 7 = .ok (.if_icmp .ge 13, 3) := by decide +kernel
theorem dX11_run_10 : decode cX11_run 10 = .ok (.aload_n 0, 1) := by decide +kernel
theorem dX11_run_11 : decode cX11_run 11 = .ok (.getfield 632, 3) := by decide +kernel
theorem dX11_run_14 : decode cX11_run 14 = .ok (.ldc_w 770, 3) := by decide +kernel
theorem dX11_run_17 : decode cX11_run 17 = .ok (.if_icmp .lt 7, 3) := by decide +kernel
theorem dX11_run_20 : decode cX11_run 20 = .ok (.iconst 1, 1) := by decide +kernel
theorem dX11_run_21 : decode cX11_run 21 = .ok (.goto 4, 3) := by decide +kernel
theorem dX11_run_24 : decode cX11_run 24 = .ok (.iconst 0, 1) := by decide +kernel
theorem dX11_run_25 : decode cX11_run 25 = .ok (.istore_n 3, 1) := by decide +kernel
theorem dX11_run_26 : decode cX11_run 26 = .ok (.aload_n 0, 1) := by decide +kernel
theorem dX11_run_27 : decode cX11_run 27 = .ok (.aload_n 0, 1) := by decide +kernel
theorem dX11_run_28 : decode cX11_run 28 = .ok (.getfield 570, 3) := by decide +kernel
theorem dX11_run_31 : decode cX11_run 31 = .ok (.ifCond .ne 7, 3) := by decide +kernel
theorem dX11_run_34 : decode cX11_run 34 = .ok (.iconst 1, 1) := by decide +kernel
theorem dX11_run_35 : decode cX11_run 35 = .ok (.goto 27, 3) := by decide +kernel
theorem dX11_run_38 : decode cX11_run 38 = .ok (.iload_n 2, 1) := by decide +kernel
theorem dX11_run_39 : decode cX11_run 39 = .ok (.ifCond .lt 10, 3) := by decide +kernel
theorem dX11_run_42 : decode cX11_run 42 = .ok (.iload_n 2, 1) := by decide +kernel
theorem dX11_run_43 : decode cX11_run 43 = .ok (.sipush 800, 3) := by decide +kernel
theorem dX11_run_46 : decode cX11_run 46 = .ok (.if_icmp .le 7, 3) := by decide +kernel
theorem dX11_run_49 : decode cX11_run 49 = .ok (.iconst 2, 1) := by decide +kernel
theorem dX11_run_50 : decode cX11_run 50 = .ok (.goto 12, 3) := by decide +kernel
theorem dX11_run_53 : decode cX11_run 53 = .ok (.iload_n 3, 1) := by decide +kernel
theorem dX11_run_54 : decode cX11_run 54 = .ok (.ifCond .eq 7, 3) := by decide +kernel
theorem dX11_run_57 : decode cX11_run 57 = .ok (.iconst 3, 1) := by decide +kernel
theorem dX11_run_58 : decode cX11_run 58 = .ok (.goto 4, 3) := by decide +kernel
theorem dX11_run_61 : decode cX11_run 61 = .ok (.iconst 0, 1) := by decide +kernel
theorem dX11_run_62 : decode cX11_run 62 = .ok (.putfield 251, 3) := by decide +kernel
theorem dX11_run_65 : decode cX11_run 65 = .ok (.aload_n 0, 1) := by decide +kernel
theorem dX11_run_66 : decode cX11_run 66 = .ok (.getfield 251, 3) := by decide +kernel
theorem dX11_run_69 : decode cX11_run 69 = .ok (.ifCond .le 5, 3) := by decide +kernel
theorem dX11_run_72 : decode cX11_run 72 = .ok (.iconst 0, 1) := by decide +kernel
theorem dX11_run_73 : decode cX11_run 73 = .ok (.ireturn, 1) := by decide +kernel
theorem dX11_run_74 : decode cX11_run 74 = .ok (.aload_n 0, 1) := by decide +kernel
theorem dX11_run_75 : decode cX11_run 75 = .ok (.invokevirtual 573, 3) := by decide +kernel
theorem dX11_run_78 : decode cX11_run 78 = .ok (.aload_n 0, 1) := by decide +kernel
theorem dX11_run_79 : decode cX11_run 79 = .ok (.iload_n 1, 1) := by decide +kernel
theorem dX11_run_80 : decode cX11_run 80 = .ok (.putfield 706, 3) := by decide +kernel
theorem dX11_run_83 : decode cX11_run 83 = .ok (.aload_n 0, 1) := by decide +kernel
theorem dX11_run_84 : decode cX11_run 84 = .ok (.iload_n 2, 1) := by decide +kernel
theorem dX11_run_85 : decode cX11_run 85 = .ok (.putfield 730, 3) := by decide +kernel
theorem dX11_run_88 : decode cX11_run 88 = .ok (.aload_n 0, 1) := by decide +kernel
theorem dX11_run_89 : decode cX11_run 89 = .ok (.iconst 0, 1) := by decide +kernel
theorem dX11_run_90 : decode cX11_run 90 = .ok (.putfield 635, 3) := by decide +kernel
theorem dX11_run_93 : decode cX11_run 93 = .ok (.aload_n 0, 1) := by decide +kernel
theorem dX11_run_94 : decode cX11_run 94 = .ok (.iconst 0, 1) := by decide +kernel
theorem dX11_run_95 : decode cX11_run 95 = .ok (.putfield 638, 3) := by decide +kernel
theorem dX11_run_98 : decode cX11_run 98 = .ok (.iconst 0, 1) := by decide +kernel
theorem dX11_run_99 : decode cX11_run 99 = .ok (.istore 4, 2) := by decide +kernel
theorem dX11_run_101 : decode cX11_run 101 = .ok (.iload 4, 2) := by decide +kernel
theorem dX11_run_103 : decode cX11_run 103 = .ok (.aload_n 0, 1) := by decide +kernel
theorem dX11_run_104 : decode cX11_run 104 = .ok (.getfield 486, 3) := by decide +kernel
theorem dX11_run_107 : decode cX11_run 107 = .ok (.if_icmp .ge 40, 3) := by decide +kernel
theorem dX11_run_110 : decode cX11_run 110 = .ok (.aload_n 0, 1) := by decide +kernel
theorem dX11_run_111 : decode cX11_run 111 = .ok (.getfield 171, 3) := by decide +kernel
theorem dX11_run_114 : decode cX11_run 114 = .ok (.iload 4, 2) := by decide +kernel
theorem dX11_run_116 : decode cX11_run 116 = .ok (.iaload, 1) := by decide +kernel
theorem dX11_run_117 : decode cX11_run 117 = .ok (.ifCond .ne 24, 3) := by decide +kernel
theorem dX11_run_120 : decode cX11_run 120 = .ok (.aload_n 0, 1) := by decide +kernel
theorem dX11_run_121 : decode cX11_run 121 = .ok (.getfield 242, 3) := by decide +kernel
theorem dX11_run_124 : decode cX11_run 124 = .ok (.iload 4, 2) := by decide +kernel
theorem dX11_run_126 : decode cX11_run 126 = .ok (.aload_n 0, 1) := by decide +kernel
theorem dX11_run_127 : decode cX11_run 127 = .ok (.iconst 2, 1) := by decide +kernel
theorem dX11_run_128 : decode cX11_run 128 = .ok (.aload_n 0, 1) := by decide +kernel
theorem dX11_run_129 : decode cX11_run 129 = .ok (.getfield 165, 3) := by decide +kernel
theorem dX11_run_132 : decode cX11_run 132 = .ok (.iload 4, 2) := by decide +kernel
theorem dX11_run_134 : decode cX11_run 134 = .ok (.iaload, 1) := by decide +kernel
theorem dX11_run_135 : decode cX11_run 135 = .ok (.iconst 0, 1) := by decide +kernel
theorem dX11_run_136 : decode cX11_run 136 = .ok (.iconst 1, 1) := by decide +kernel
theorem dX11_run_137 : decode cX11_run 137 = .ok (.invokevirtual 653, 3) := by decide +kernel
theorem dX11_run_140 : decode cX11_run 140 = .ok (.iastore, 1) := by decide +kernel
theorem dX11_run_141 : decode cX11_run 141 = .ok (.iinc 4 1, 3) := by decide +kernel
theorem dX11_run_144 : decode cX11_run 144 = .ok (.goto (-43), 3) := by decide +kernel
theorem dX11_run_147 : decode cX11_run 147 = .ok (.aload_n 0, 1) := by decide +kernel
theorem dX11_run_148 : decode cX11_run 148 = .ok (.iconst 1, 1) := by decide +kernel
theorem dX11_run_149 : decode cX11_run 149 = .ok (.putfield 767, 3) := by decide +kernel
theorem dX11_run_152 : decode cX11_run 152 = .ok (.aload_n 0, 1) := by decide +kernel
theorem dX11_run_153 : decode cX11_run 153 = .ok (.getfield 245, 3) := by decide +kernel
theorem dX11_run_156 : decode cX11_run 156 = .ok (.iconst 0, 1) := by decide +kernel
theorem dX11_run_157 : decode cX11_run 157 = .ok (.iconst 3, 1) := by decide +kernel
theorem dX11_run_158 : decode cX11_run 158 = .ok (.aload_n 0, 1) := by decide +kernel
theorem dX11_run_159 : decode cX11_run 159 = .ok (.getfield 242, 3) := by decide +kernel
theorem dX11_run_162 : decode cX11_run 162 = .ok (.aload_n 0, 1) := by decide +kernel
theorem dX11_run_163 : decode cX11_run 163 = .ok (.invokevirtual 517, 3) := by decide +kernel
theorem dX11_run_166 : decode cX11_run 166 = .ok (.iaload, 1) := by decide +kernel
theorem dX11_run_167 : decode cX11_run 167 = .ok (.invokestatic 650, 3) := by decide +kernel
theorem dX11_run_170 : decode cX11_run 170 = .ok (.lastore, 1) := by decide +kernel
theorem dX11_run_171 : decode cX11_run 171 = .ok (.aload_n 0, 1) := by decide +kernel
theorem dX11_run_172 : decode cX11_run 172 = .ok (.getfield 605, 3) := by decide +kernel
theorem dX11_run_175 : decode cX11_run 175 = .ok (.ifCond .ne 51, 3) := by decide +kernel
theorem dX11_run_178 : decode cX11_run 178 = .ok (.aload_n 0, 1) := by decide +kernel
theorem dX11_run_179 : decode cX11_run 179 = .ok (.getfield 767, 3) := by decide +kernel
theorem dX11_run_182 : decode cX11_run 182 = .ok (.ifCond .le 44, 3) := by decide +kernel
theorem dX11_run_185 : decode cX11_run 185 = .ok (.aload_n 0, 1) := by decide +kernel
theorem dX11_run_186 : decode cX11_run 186 = .ok (.dup, 1) := by decide +kernel
theorem dX11_run_187 : decode cX11_run 187 = .ok (.getfield 767, 3) := by decide +kernel
theorem dX11_run_190 : decode cX11_run 190 = .ok (.iconst 1, 1) := by decide +kernel
theorem dX11_run_191 : decode cX11_run 191 = .ok (.isub, 1) := by decide +kernel
theorem dX11_run_192 : decode cX11_run 192 = .ok (.putfield 767, 3) := by decide +kernel
theorem dX11_run_195 : decode cX11_run 195 = .ok (.aload_n 0, 1) := by decide +kernel
theorem dX11_run_196 : decode cX11_run 196 = .ok (.aload_n 0, 1) := by decide +kernel
theorem dX11_run_197 : decode cX11_run 197 = .ok (.getfield 245, 3) := by decide +kernel
theorem dX11_run_200 : decode cX11_run 200 = .ok (.aload_n 0, 1) := by decide +kernel
theorem dX11_run_201 : decode cX11_run 201 = .ok (.getfield 767, 3) := by decide +kernel
theorem dX11_run_204 : decode cX11_run 204 = .ok (.laload, 1) := by decide +kernel
theorem dX11_run_205 : decode cX11_run 205 = .ok (.invokevirtual 771, 3) := by decide +kernel
theorem dX11_run_208 : decode cX11_run 208 = .ok (.aload_n 0, 1) := by decide +kernel
theorem dX11_run_209 : decode cX11_run 209 = .ok (.getfield 605, 3) := by decide +kernel
theorem dX11_run_212 : decode cX11_run 212 = .ok (.ifCond .ne (-41), 3) := by decide +kernel
theorem dX11_run_215 : decode cX11_run 215 = .ok (.aload_n 0, 1) := by decide +kernel
theorem dX11_run_216 : decode cX11_run 216 = .ok (.aload_n 0, 1) := by decide +kernel
theorem dX11_run_217 : decode cX11_run 217 = .ok (.getfield 623, 3) := by decide +kernel
theorem dX11_run_220 : decode cX11_run 220 = .ok (.invokevirtual 774, 3) := by decide +kernel
theorem dX11_run_223 : decode cX11_run 223 = .ok (.goto (-52), 3) := by decide +kernel
theorem dX11_run_226 : decode cX11_run 226 = .ok (.aload_n 0, 1) := by decide +kernel
theorem dX11_run_227 : decode cX11_run 227 = .ok (.iconst 1, 1) := by decide +kernel
theorem dX11_run_228 : decode cX11_run 228 = .ok (.iconst 0, 1) := by decide +kernel
theorem dX11_run_229 : decode cX11_run 229 = .ok (.invokevirtual 629, 3) := by decide +kernel
theorem dX11_run_232 : decode cX11_run 232 = .ok (.aload_n 0, 1) := by decide +kernel
theorem dX11_run_233 : decode cX11_run 233 = .ok (.getfield 605, 3) := by decide +kernel
theorem dX11_run_236 : decode cX11_run 236 = .ok (.ireturn, 1) := by decide +kernel
theorem mw_X11_run : MW yX11_run (Cond.code yX11_run cX11_run 5 (Option.some Jvm.ClassFile.FieldType.int)) cX11_run 5 (Option.some Jvm.ClassFile.FieldType.int) 2 := ⟨rfl, ⟨(lw_all_tbl q3232), rfl, (lw_all_tbl q173)⟩, rfl, ⟨by decide, by decide⟩, by decide +kernel⟩
abbrev okt_run_101 (x : Int) : Prop := R32 x
abbrev lvt_run_101 (Γ : Gm) (x : Int) : List (Nat × Value) := [(0, vA (mg Γ) 21), (4, vI x)]
noncomputable def t_run_141 {A : Type} (k_147 : Mo TS A) (l4 : Int) : Mo TS ((Int) ⊕ A) :=
  pr (.inl (w32 (l4 + 1)))
theorem st_run_141 {Γ : Gm} {h : CH} {d : Nat} (hT : HT h) (o : Ok Γ "LazyForgeModel" cX11_run 5 (Option.some Jvm.ClassFile.FieldType.int) (d + 9)) {A : Type} {K : A → TS → Prop}  (k_147 : Mo TS A) (hk_147 : Sx Γ (fun t => (h, t)) K 147 [(0, vA (mg Γ) 21)] [] (k_147)) (l4 : Int) (hl4 : R32 l4) : Sx Γ (fun t => (h, t)) (KL Γ (fun t => (h, t)) okt_run_101 K 101 (lvt_run_101 Γ) []) 141 [(0, vA (mg Γ) 21), (4, vI l4)] [] (t_run_141 k_147 l4) := by
  unfold t_run_141
  refine r_iinc (j := 1) o dX11_run_141 rfl rfl [(0, vA (mg Γ) 21)] [0] rfl ⟨(Nat.ne_of_beq_eq_false rfl), (fun _ => (vA_cat (mg Γ) 21)), trivial⟩ ?_
  refine s_goto (tgt := 101) o dX11_run_144 (by decide) ?_
  refine r_to [(0, vA (mg Γ) 21), (4, vI (w32 (l4 + 1)))] [1, 0] rfl ?_
  exact s_back (w32_R _) rfl
noncomputable def t_run_101b {A : Type} (k_147 : Mo TS A) (l4 : Int) : Mo TS ((Int) ⊕ A) :=
  bnd (gs 46) fun v1 =>
  if v1 ≤ l4 then
    lo k_147
  else
    bnd (rd 82 640 l4) fun v2 =>
    if ¬ v2 = 0 then
      t_run_141 k_147 l4
    else
      bnd (rd 80 640 l4) fun v3 =>
      bnd (t_newCell 2 v3 0 1) fun v4 =>
      bnd (wr 131 640 l4 v4) fun _ =>
      t_run_141 k_147 l4
theorem st_run_101b {Γ : Gm} {h : CH} {d : Nat} (hT : HT h) (o : Ok Γ "LazyForgeModel" cX11_run 5 (Option.some Jvm.ClassFile.FieldType.int) (d + 9)) {A : Type} {K : A → TS → Prop} (k_147 : Mo TS A) (hk_147 : Sx Γ (fun t => (h, t)) K 147 [(0, vA (mg Γ) 21)] [] (k_147)) (l4 : Int) (hl4 : R32 l4) : Sx Γ (fun t => (h, t)) (KL Γ (fun t => (h, t)) okt_run_101 K 101 (lvt_run_101 Γ) []) 101 [(0, vA (mg Γ) 21), (4, vI l4)] [] (t_run_101b k_147 l4) := by
  unfold t_run_101b
  refine s_iload o dX11_run_101 1 rfl ?_
  refine s_aload_n o dX11_run_103 rfl 0 rfl ?_
  refine r_tgf vI rfl o hT tf_named tj_named (lw_all_tbl q2550) dX11_run_104 (fun v1 hv1 => ?_)
  refine s_icmp_ge (tgt := 147) o dX11_run_107 (by decide) hl4 hv1 ?_ ?_
  · refine r_to [(0, vA (mg Γ) 21)] [0] rfl ?_
    exact s_lo hk_147
  · refine s_aload_n o dX11_run_110 rfl 0 rfl ?_
    refine s_tga (x := 75) o hT tf_parameterCounts ta_parameterCounts (lw_all_tbl q2586) dX11_run_111 ?_
    refine s_iload o dX11_run_114 1 rfl ?_
    refine r_tiald o hT tr_parameterCounts hl4 dX11_run_116 (fun v2 hv2 => ?_)
    refine s_if_ne (tgt := 141) o dX11_run_117 (by decide) hv2 ?_ ?_
    · exact st_run_141 hT o k_147 hk_147 l4 hl4
    · refine s_aload_n o dX11_run_120 rfl 0 rfl ?_
      refine s_tga (x := 96) o hT tf_functionCells ta_functionCells (lw_all_tbl q2635) dX11_run_121 ?_
      refine s_iload o dX11_run_124 1 rfl ?_
      refine s_aload_n o dX11_run_126 rfl 0 rfl ?_
      refine s_iconst o dX11_run_127 ?_
      refine s_aload_n o dX11_run_128 rfl 0 rfl ?_
      refine s_tga (x := 73) o hT tf_roots ta_roots (lw_all_tbl q2584) dX11_run_129 ?_
      refine s_iload o dX11_run_132 1 rfl ?_
      refine r_tiald o hT tr_roots hl4 dX11_run_134 (fun v3 hv3 => ?_)
      refine s_iconst o dX11_run_135 ?_
      refine s_iconst o dX11_run_136 ?_
      refine s_cv (d := d + 8) (C := "LazyForgeModel") (As := [vI 2, vI v3, vI 0, vI 1]) (st := [vI l4, vA (mg Γ) 96]) o (st_newCell (mg Γ) (d + 7) h hT 2 v3 0 1 (r32 rfl) hv3 (r32 rfl) (r32 rfl)) mw_X11_newCell rfl (Or.inl (lw_all_tbl q3234)) (lw_all_tbl qs125) (lw_all_tbl q3236) (fun t => rc_t o hT t) (wt_I (wt_A wt_0)) rfl dX11_run_137 rfl (rs := fun r => [vI r, vI l4, vA (mg Γ) 96]) (fun _ => rfl) (fun v4 hv4 => ?_)
      refine r_tiast o hT tr_functionCells hl4 (hv4 _ rfl) dX11_run_140 ?_
      exact st_run_141 hT o k_147 hk_147 l4 hl4
noncomputable def t_run_101 {A : Type} (k_147 : Mo TS A) (l4 : Int) : Mo TS A := Loop (fun x => t_run_101b k_147 x) l4
theorem st_run_101 {Γ : Gm} {h : CH} {d : Nat} (hT : HT h) (o : Ok Γ "LazyForgeModel" cX11_run 5 (Option.some Jvm.ClassFile.FieldType.int) (d + 9)) {A : Type} {K : A → TS → Prop} (k_147 : Mo TS A) (hk_147 : Sx Γ (fun t => (h, t)) K 147 [(0, vA (mg Γ) 21)] [] (k_147)) (l4 : Int) (hl4 : R32 l4) : Sx Γ (fun t => (h, t)) K 101 [(0, vA (mg Γ) 21), (4, vI l4)] [] (t_run_101 k_147 l4) :=
  s_loop okt_run_101 (lvt_run_101 Γ) (fun x hx => st_run_101b hT o k_147 hk_147 x hx) (x := l4) hl4
abbrev okt_run_171 (x : Unit) : Prop := True
abbrev lvt_run_171 (Γ : Gm) (x : Unit) : List (Nat × Value) := [(0, vA (mg Γ) 21)]
noncomputable def t_run_171b {A : Type} (k_226 : Mo TS A) : Mo TS ((Unit) ⊕ A) :=
  bnd (gs 111) fun v1 =>
  if ¬ v1 = 0 then
    lo k_226
  else
    bnd (gs 132) fun v2 =>
    if v2 ≤ 0 then
      lo k_226
    else
      bnd (gs 132) fun v3 =>
      bnd (ss 132 (w32 (v3 - 1))) fun _ =>
      bnd (gs 132) fun v4 =>
      bnd (rd 133 4200 v4) fun v5 =>
      bnd (t_workOut v5) fun _ =>
      bnd (gs 111) fun v6 =>
      if ¬ v6 = 0 then
        pr (.inl ())
      else
        bnd (gs 127) fun v7 =>
        bnd (t_force v7) fun _ =>
        pr (.inl ())
theorem st_run_171b {Γ : Gm} {h : CH} {d : Nat} (hT : HT h) (o : Ok Γ "LazyForgeModel" cX11_run 5 (Option.some Jvm.ClassFile.FieldType.int) (d + 9)) {A : Type} {K : A → TS → Prop} (k_226 : Mo TS A) (hk_226 : Sx Γ (fun t => (h, t)) K 226 [(0, vA (mg Γ) 21)] [] (k_226)) : Sx Γ (fun t => (h, t)) (KL Γ (fun t => (h, t)) okt_run_171 K 171 (lvt_run_171 Γ) []) 171 [(0, vA (mg Γ) 21)] [] (t_run_171b k_226) := by
  unfold t_run_171b
  refine s_aload_n o dX11_run_171 rfl 0 rfl ?_
  refine r_tgf vI rfl o hT tf_how tj_how (lw_all_tbl q2615) dX11_run_172 (fun v1 hv1 => ?_)
  refine s_if_ne (tgt := 226) o dX11_run_175 (by decide) hv1 ?_ ?_
  · exact s_lo hk_226
  · refine s_aload_n o dX11_run_178 rfl 0 rfl ?_
    refine r_tgf vI rfl o hT tf_pending tj_pending (lw_all_tbl q2636) dX11_run_179 (fun v2 hv2 => ?_)
    refine s_if_le (tgt := 226) o dX11_run_182 (by decide) hv2 ?_ ?_
    · exact s_lo hk_226
    · refine s_aload_n o dX11_run_185 rfl 0 rfl ?_
      refine s_dup o dX11_run_186 (vA_cat (mg Γ) 21) ?_
      refine r_tgf vI rfl o hT tf_pending tj_pending (lw_all_tbl q2636) dX11_run_187 (fun v3 hv3 => ?_)
      refine s_iconst o dX11_run_190 ?_
      refine s_isub o dX11_run_191 ?_
      refine r_tpf vI rfl o hT tf_pending tj_pending (lw_all_tbl q2636) dX11_run_192 (w32_R _) ty_int ?_
      refine s_aload_n o dX11_run_195 rfl 0 rfl ?_
      refine s_aload_n o dX11_run_196 rfl 0 rfl ?_
      refine s_tga (x := 97) o hT tf_pendings ta_pendings (lw_all_tbl q2637) dX11_run_197 ?_
      refine s_aload_n o dX11_run_200 rfl 0 rfl ?_
      refine r_tgf vI rfl o hT tf_pending tj_pending (lw_all_tbl q2636) dX11_run_201 (fun v4 hv4 => ?_)
      refine r_tlald o hT tr_pendings hv4 dX11_run_204 (fun v5 hv5 => ?_)
      refine s_cv (d := d + 8) (C := "LazyForgeModel") (As := [vJ v5]) (st := []) o (st_workOut (mg Γ) d h hT v5 hv5) mw_X11_workOut rfl (Or.inl (lw_all_tbl q3246)) (lw_all_tbl qs127) (lw_all_tbl q3248) (fun t => rc_t o hT t) wt_0 rfl dX11_run_205 rfl (rs := fun _ => []) (fun _ => rfl) (fun _ _ => ?_)
      refine s_aload_n o dX11_run_208 rfl 0 rfl ?_
      refine r_tgf vI rfl o hT tf_how tj_how (lw_all_tbl q2615) dX11_run_209 (fun v6 hv6 => ?_)
      refine s_if_ne (tgt := 171) o dX11_run_212 (by decide) hv6 ?_ ?_
      · exact s_back trivial rfl
      · refine s_aload_n o dX11_run_215 rfl 0 rfl ?_
        refine s_aload_n o dX11_run_216 rfl 0 rfl ?_
        refine r_tgf vJ rfl o hT tf_result tj_result (lw_all_tbl q2631) dX11_run_217 (fun v7 hv7 => ?_)
        refine s_cv (d := d + 8) (C := "LazyForgeModel") (As := [vJ v7]) (st := []) o (st_force (mg Γ) (d + 6) h hT v7 hv7) mw_X11_force rfl (Or.inl (lw_all_tbl q3344)) (lw_all_tbl qs149) (lw_all_tbl q3346) (fun t => rc_t o hT t) wt_0 rfl dX11_run_220 rfl (rs := fun _ => []) (fun _ => rfl) (fun _ _ => ?_)
        refine s_goto (tgt := 171) o dX11_run_223 (by decide) ?_
        exact s_back trivial rfl
noncomputable def t_run_171 {A : Type} (k_226 : Mo TS A) : Mo TS A := Loop (fun x => t_run_171b k_226) ()
theorem st_run_171 {Γ : Gm} {h : CH} {d : Nat} (hT : HT h) (o : Ok Γ "LazyForgeModel" cX11_run 5 (Option.some Jvm.ClassFile.FieldType.int) (d + 9)) {A : Type} {K : A → TS → Prop} (k_226 : Mo TS A) (hk_226 : Sx Γ (fun t => (h, t)) K 226 [(0, vA (mg Γ) 21)] [] (k_226)) : Sx Γ (fun t => (h, t)) K 171 [(0, vA (mg Γ) 21)] [] (t_run_171 k_226) :=
  s_loop okt_run_171 (lvt_run_171 Γ) (fun x hx => st_run_171b hT o k_226 hk_226) (x := ()) trivial
noncomputable def t_run_62  (l1 : Int) (l2 : Int) (k0 : Int) : Mo TS Int :=
  bnd (ss 0 k0) fun _ =>
  bnd (gs 0) fun v1 =>
  if v1 ≤ 0 then
    bnd (t_clearRun) fun _ =>
    bnd (ss 115 l1) fun _ =>
    bnd (ss 103 l2) fun _ =>
    bnd (ss 97 0) fun _ =>
    bnd (ss 98 0) fun _ =>
    t_run_101
      (bnd (ss 132 1) fun _ =>
    bnd (t_mainFunction) fun v2 =>
    bnd (rd 131 640 v2) fun v3 =>
    bnd (t_value 3 v3) fun v4 =>
    bnd (wr 133 4200 0 v4) fun _ =>
    t_run_171
      (bnd (t_ends 1 0) fun _ =>
    bnd (gs 111) fun v5 =>
    pr v5)) 0
  else
    pr 0
theorem st_run_62 {Γ : Gm} {h : CH} {d : Nat} (hT : HT h) (o : Ok Γ "LazyForgeModel" cX11_run 5 (Option.some Jvm.ClassFile.FieldType.int) (d + 9))   (l1 : Int) (l2 : Int) (k0 : Int) (hl1 : rg .boolean l1) (hl2 : R32 l2) (hk0 : R32 k0) : Sx Γ (fun t => (h, t)) (fun a s => mt Γ = (0, a, ((h, s) : Wd))) 62 [(0, vA (mg Γ) 21), (1, vI l1), (2, vI l2)] [vI k0, vA (mg Γ) 21] (t_run_62 l1 l2 k0) := by
  unfold t_run_62
  refine r_tpf vI rfl o hT tf_thrown tj_thrown (lw_all_tbl q2504) dX11_run_62 hk0 ty_int ?_
  refine s_aload_n o dX11_run_65 rfl 0 rfl ?_
  refine r_tgf vI rfl o hT tf_thrown tj_thrown (lw_all_tbl q2504) dX11_run_66 (fun v1 hv1 => ?_)
  refine s_if_le (tgt := 74) o dX11_run_69 (by decide) hv1 ?_ ?_
  · refine s_aload_n o dX11_run_74 rfl 0 rfl ?_
    refine s_cv (d := d + 8) (C := "LazyForgeModel") (As := []) (st := []) o (st_clearRun (mg Γ) (d + 8) h hT) mw_X11_clearRun rfl (Or.inl (lw_all_tbl q2921)) (lw_all_tbl qs55) (lw_all_tbl q2923) (fun t => rc_t o hT t) wt_0 rfl dX11_run_75 rfl (rs := fun _ => []) (fun _ => rfl) (fun _ _ => ?_)
    refine s_aload_n o dX11_run_78 rfl 0 rfl ?_
    refine s_iload_n o dX11_run_79 rfl 1 rfl ?_
    refine r_tpf vI rfl o hT tf_eager tj_eager (lw_all_tbl q2619) dX11_run_80 hl1 ty_boolean ?_
    refine s_aload_n o dX11_run_83 rfl 0 rfl ?_
    refine s_iload_n o dX11_run_84 rfl 2 rfl ?_
    refine r_tpf vI rfl o hT tf_callsLeft tj_callsLeft (lw_all_tbl q2607) dX11_run_85 hl2 ty_int ?_
    refine s_aload_n o dX11_run_88 rfl 0 rfl ?_
    refine s_iconst o dX11_run_89 ?_
    refine r_tpf vI rfl o hT tf_cellsMade tj_cellsMade (lw_all_tbl q2601) dX11_run_90 (r32 rfl) ty_int ?_
    refine s_aload_n o dX11_run_93 rfl 0 rfl ?_
    refine s_iconst o dX11_run_94 ?_
    refine r_tpf vI rfl o hT tf_fieldTop tj_fieldTop (lw_all_tbl q2602) dX11_run_95 (r32 rfl) ty_int ?_
    refine s_iconst o dX11_run_98 ?_
    refine r_istore o dX11_run_99 rfl ⟨(Nat.ne_of_beq_eq_false rfl), (fun _ => (vA_cat (mg Γ) 21)), ⟨(Nat.ne_of_beq_eq_false rfl), (fun _ => rfl), ⟨(Nat.ne_of_beq_eq_false rfl), (fun _ => rfl), trivial⟩⟩⟩ ?_
    refine r_to [(0, vA (mg Γ) 21), (4, vI 0)] [1, 0] rfl ?_
    refine st_run_101 hT o _ ?_ 0 (r32 rfl)
    · refine s_aload_n o dX11_run_147 rfl 0 rfl ?_
      refine s_iconst o dX11_run_148 ?_
      refine r_tpf vI rfl o hT tf_pending tj_pending (lw_all_tbl q2636) dX11_run_149 (r32 rfl) ty_int ?_
      refine s_aload_n o dX11_run_152 rfl 0 rfl ?_
      refine s_tga (x := 97) o hT tf_pendings ta_pendings (lw_all_tbl q2637) dX11_run_153 ?_
      refine s_iconst o dX11_run_156 ?_
      refine s_iconst o dX11_run_157 ?_
      refine s_aload_n o dX11_run_158 rfl 0 rfl ?_
      refine s_tga (x := 96) o hT tf_functionCells ta_functionCells (lw_all_tbl q2635) dX11_run_159 ?_
      refine s_aload_n o dX11_run_162 rfl 0 rfl ?_
      refine s_cv (d := d + 8) (C := "LazyForgeModel") (As := []) (st := [vA (mg Γ) 96, vI 3, vI 0, vA (mg Γ) 97]) o (st_mainFunction (mg Γ) (d + 7) h hT) mw_X11_mainFunction rfl (Or.inl (lw_all_tbl q3161)) (lw_all_tbl qs109) (lw_all_tbl q3163) (fun t => rc_t o hT t) (wt_A (wt_I (wt_I (wt_A wt_0)))) rfl dX11_run_163 rfl (rs := fun r => [vI r, vA (mg Γ) 96, vI 3, vI 0, vA (mg Γ) 97]) (fun _ => rfl) (fun v2 hv2 => ?_)
      refine r_tiald o hT tr_functionCells (hv2 _ rfl) dX11_run_166 (fun v3 hv3 => ?_)
      refine s_cs (d := d + 8) (As := [vI 3, vI v3]) (st := [vI 0, vA (mg Γ) 97]) o (st_value (mg Γ) (d + 8) h 3 v3 (r32 rfl) hv3) mw_X11_value rfl (Or.inl (lw_all_tbl q3242)) (lw_all_tbl q3243) (wt_I (wt_A wt_0)) rfl dX11_run_167 rfl (rs := fun r => [vJ r, vI 0, vA (mg Γ) 97]) (fun _ => rfl) (fun v4 hv4 => ?_)
      refine r_tlast o hT tr_pendings (r32 rfl) (hv4 _ rfl) dX11_run_170 ?_
      refine st_run_171 hT o _ ?_
      · refine s_aload_n o dX11_run_226 rfl 0 rfl ?_
        refine s_iconst o dX11_run_227 ?_
        refine s_iconst o dX11_run_228 ?_
        refine s_cv (d := d + 8) (C := "LazyForgeModel") (As := [vI 1, vI 0]) (st := []) o (st_ends (mg Γ) (d + 8) h hT 1 0 (r32 rfl) (r32 rfl)) mw_X11_ends rfl (Or.inl (lw_all_tbl q3238)) (lw_all_tbl qs126) (lw_all_tbl q3240) (fun t => rc_t o hT t) wt_0 rfl dX11_run_229 rfl (rs := fun _ => []) (fun _ => rfl) (fun _ _ => ?_)
        refine s_aload_n o dX11_run_232 rfl 0 rfl ?_
        refine r_tgf vI rfl o hT tf_how tj_how (lw_all_tbl q2615) dX11_run_233 (fun v5 hv5 => ?_)
        exact s_iret o rfl i_int hv5 dX11_run_236 (fun _ hh => hh)
  · refine s_iconst o dX11_run_72 ?_
    exact s_iret o rfl i_int (r32 rfl) dX11_run_73 (fun _ hh => hh)
noncomputable def t_run_49  (l1 : Int) (l2 : Int) : Mo TS Int :=
  t_run_62 l1 l2 2
theorem st_run_49 {Γ : Gm} {h : CH} {d : Nat} (hT : HT h) (o : Ok Γ "LazyForgeModel" cX11_run 5 (Option.some Jvm.ClassFile.FieldType.int) (d + 9))   (l1 : Int) (l2 : Int) (hl1 : rg .boolean l1) (hl2 : R32 l2) : Sx Γ (fun t => (h, t)) (fun a s => mt Γ = (0, a, ((h, s) : Wd))) 49 [(0, vA (mg Γ) 21), (1, vI l1), (2, vI l2)] [vA (mg Γ) 21] (t_run_49 l1 l2) := by
  unfold t_run_49
  refine s_iconst o dX11_run_49 ?_
  refine s_goto (tgt := 62) o dX11_run_50 (by decide) ?_
  exact st_run_62 hT o l1 l2 2 hl1 hl2 (r32 rfl)
noncomputable def t_run_25  (l1 : Int) (l2 : Int) (k0 : Int) : Mo TS Int :=
  bnd (gs 88) fun v1 =>
  if ¬ v1 = 0 then
    if l2 < 0 then
      t_run_49 l1 l2
    else
      if l2 ≤ 800 then
        if k0 = 0 then
          t_run_62 l1 l2 0
        else
          t_run_62 l1 l2 3
      else
        t_run_49 l1 l2
  else
    t_run_62 l1 l2 1
theorem st_run_25 {Γ : Gm} {h : CH} {d : Nat} (hT : HT h) (o : Ok Γ "LazyForgeModel" cX11_run 5 (Option.some Jvm.ClassFile.FieldType.int) (d + 9))   (l1 : Int) (l2 : Int) (k0 : Int) (hl1 : rg .boolean l1) (hl2 : R32 l2) (hk0 : rg .boolean k0) : Sx Γ (fun t => (h, t)) (fun a s => mt Γ = (0, a, ((h, s) : Wd))) 25 [(0, vA (mg Γ) 21), (1, vI l1), (2, vI l2)] [vI k0] (t_run_25 l1 l2 k0) := by
  unfold t_run_25
  refine r_istore_n o dX11_run_25 rfl rfl ⟨(Nat.ne_of_beq_eq_false rfl), (fun _ => (vA_cat (mg Γ) 21)), ⟨(Nat.ne_of_beq_eq_false rfl), (fun _ => rfl), ⟨(Nat.ne_of_beq_eq_false rfl), (fun _ => rfl), trivial⟩⟩⟩ ?_
  refine s_aload_n o dX11_run_26 rfl 1 rfl ?_
  refine s_aload_n o dX11_run_27 rfl 1 rfl ?_
  refine r_tgf vI rfl o hT tf_hasProgram tj_hasProgram (lw_all_tbl q2592) dX11_run_28 (fun v1 hv1 => ?_)
  refine s_if_ne (tgt := 38) o dX11_run_31 (by decide) (rZ hv1) ?_ ?_
  · refine s_iload_n o dX11_run_38 rfl 3 rfl ?_
    refine s_if_lt (tgt := 49) o dX11_run_39 (by decide) hl2 ?_ ?_
    · refine r_to [(0, vA (mg Γ) 21), (1, vI l1), (2, vI l2)] [1, 2, 3] rfl ?_
      exact st_run_49 hT o l1 l2 hl1 hl2
    · refine s_iload_n o dX11_run_42 rfl 3 rfl ?_
      refine s_sipush o dX11_run_43 rfl ?_
      refine s_icmp_le (tgt := 53) o dX11_run_46 (by decide) hl2 (r32 rfl) ?_ ?_
      · refine s_iload_n o dX11_run_53 rfl 0 rfl ?_
        refine s_if_eq (tgt := 61) o dX11_run_54 (by decide) (rZ hk0) ?_ ?_
        · refine s_iconst o dX11_run_61 ?_
          refine r_to [(0, vA (mg Γ) 21), (1, vI l1), (2, vI l2)] [1, 2, 3] rfl ?_
          exact st_run_62 hT o l1 l2 0 hl1 hl2 (r32 rfl)
        · refine s_iconst o dX11_run_57 ?_
          refine s_goto (tgt := 62) o dX11_run_58 (by decide) ?_
          refine r_to [(0, vA (mg Γ) 21), (1, vI l1), (2, vI l2)] [1, 2, 3] rfl ?_
          exact st_run_62 hT o l1 l2 3 hl1 hl2 (r32 rfl)
      · refine r_to [(0, vA (mg Γ) 21), (1, vI l1), (2, vI l2)] [1, 2, 3] rfl ?_
        exact st_run_49 hT o l1 l2 hl1 hl2
  · refine s_iconst o dX11_run_34 ?_
    refine s_goto (tgt := 62) o dX11_run_35 (by decide) ?_
    refine r_to [(0, vA (mg Γ) 21), (1, vI l1), (2, vI l2)] [1, 2, 3] rfl ?_
    exact st_run_62 hT o l1 l2 1 hl1 hl2 (r32 rfl)
noncomputable def t_run_20  (l1 : Int) (l2 : Int) : Mo TS Int :=
  t_run_25 l1 l2 1
theorem st_run_20 {Γ : Gm} {h : CH} {d : Nat} (hT : HT h) (o : Ok Γ "LazyForgeModel" cX11_run 5 (Option.some Jvm.ClassFile.FieldType.int) (d + 9))   (l1 : Int) (l2 : Int) (hl1 : rg .boolean l1) (hl2 : R32 l2) : Sx Γ (fun t => (h, t)) (fun a s => mt Γ = (0, a, ((h, s) : Wd))) 20 [(0, vA (mg Γ) 21), (1, vI l1), (2, vI l2)] [] (t_run_20 l1 l2) := by
  unfold t_run_20
  refine s_iconst o dX11_run_20 ?_
  refine s_goto (tgt := 25) o dX11_run_21 (by decide) ?_
  exact st_run_25 hT o l1 l2 1 hl1 hl2 (Or.inr rfl)
noncomputable def t_run (l1 : Int) (l2 : Int) : Mo TS Int :=
  bnd (gs 102) fun v1 =>
  if 150000 ≤ v1 then
    t_run_20 l1 l2
  else
    bnd (gs 101) fun v2 =>
    if v2 < 150000 then
      t_run_25 l1 l2 0
    else
      t_run_20 l1 l2
theorem st_run (g : gC) (d : Nat) (h : CH) (hT : HT h) (l1 : Int) (l2 : Int) (hl1 : rg .boolean l1) (hl2 : R32 l2) : SF g yX11_run (Cond.code yX11_run cX11_run 5 (Option.some Jvm.ClassFile.FieldType.int)) (Option.some Jvm.ClassFile.FieldType.int) (d + 9) [vA g 21, vI l1, vI l2] (fun t => (h, t)) (t_run l1 l2) := by
  refine SF.of (lv := [(0, vA g 21), (1, vI l1), (2, vI l2)]) (by decide) (wt_A (wt_I (wt_I wt_0))) rfl (by simp only [la_A, la_I, la_J, la_0]) (fun Γ hg hnm o => ?_)
  subst hg
  have o : Ok Γ "LazyForgeModel" cX11_run 5 (Option.some Jvm.ClassFile.FieldType.int) (d + 9) := o
  unfold t_run
  refine s_aload_n o dX11_run_0 rfl 0 rfl ?_
  refine r_tgf vI rfl o hT tf_allCalls tj_allCalls (lw_all_tbl q2606) dX11_run_1 (fun v1 hv1 => ?_)
  refine s_ldcw (n := 150000) o dX11_run_4 (lw_all_tbl q3233) rfl ?_
  refine s_icmp_ge (tgt := 20) o dX11_run_7 (by decide) hv1 (r32 rfl) ?_ ?_
  · exact st_run_20 hT o l1 l2 hl1 hl2
  · refine s_aload_n o dX11_run_10 rfl 0 rfl ?_
    refine r_tgf vI rfl o hT tf_allCells tj_allCells (lw_all_tbl q2605) dX11_run_11 (fun v2 hv2 => ?_)
    refine s_ldcw (n := 150000) o dX11_run_14 (lw_all_tbl q3233) rfl ?_
    refine s_icmp_lt (tgt := 24) o dX11_run_17 (by decide) hv2 (r32 rfl) ?_ ?_
    · refine s_iconst o dX11_run_24 ?_
      exact st_run_25 hT o l1 l2 0 hl1 hl2 (Or.inl rfl)
    · exact st_run_20 hT o l1 l2 hl1 hl2
theorem dX11_readFunction_0 : decode cX11_readFunction 0 = .ok (.iconst 0, 1) := by decide +kernel
theorem dX11_readFunction_1 : decode cX11_readFunction 1 = .ok (.istore_n 1, 1) := by decide +kernel
theorem dX11_readFunction_2 : decode cX11_readFunction 2 = .ok (.iload_n 1, 1) := by decide +kernel
theorem dX11_readFunction_3 : decode cX11_readFunction 3 = .ok (.aload_n 0, 1) := by decide +kernel
theorem dX11_readFunction_4 : decode cX11_readFunction 4 = .ok (.getfield 462, 3) := by decide +kernel
theorem dX11_readFunction_7 : decode cX11_readFunction 7 = .ok (.if_icmp .ge 40, 3) := by decide +kernel
theorem dX11_readFunction_10 : decode cX11_readFunction 10 = .ok (.aload_n 0, 1) := by decide +kernel
theorem dX11_readFunction_11 : decode cX11_readFunction 11 = .ok (.getfield 286, 3) := by decide +kernel
theorem dX11_readFunction_14 : decode cX11_readFunction 14 = .ok (.iconst 3, 1) := by decide +kernel
theorem dX11_readFunction_15 : decode cX11_readFunction 15 = .ok (.if_icmp .ne 26, 3) := by decide +kernel
theorem dX11_readFunction_18 : decode cX11_readFunction 18 = .ok (.aload_n 0, 1) := by decide +kernel
theorem dX11_readFunction_19 : decode cX11_readFunction 19 = .ok (.getfield 50, 3) := by decide +kernel
theorem dX11_readFunction_22 : decode cX11_readFunction 22 = .ok (.iload_n 1, 1) := by decide +kernel
theorem dX11_readFunction_23 : decode cX11_readFunction 23 = .ok (.laload, 1) := by decide +kernel
theorem dX11_readFunction_24 : decode cX11_readFunction 24 = .ok (.aload_n 0, 1) := by decide +kernel
theorem dX11_readFunction_25 : decode cX11_readFunction 25 = .ok (.getfield 278, 3) := by decide +kernel
theorem dX11_readFunction_28 : decode cX11_readFunction 28 = .ok (.lcmp, 1) := by decide +kernel
theorem dX11_readFunction_29 : decode cX11_readFunction 29 = .ok (.ifCond .ne 12, 3) := by decide +kernel
theorem dX11_readFunction_32 : decode cX11_readFunction 32 = .ok (.aload_n 0, 1) := by decide +kernel
theorem dX11_readFunction_33 : decode cX11_readFunction 33 = .ok (.iconst 2, 1) := by decide +kernel
theorem dX11_readFunction_34 : decode cX11_readFunction 34 = .ok (.aload_n 0, 1) := by decide +kernel
theorem dX11_readFunction_35 : decode cX11_readFunction 35 = .ok (.getfield 275, 3) := by decide +kernel
theorem dX11_readFunction_38 : decode cX11_readFunction 38 = .ok (.invokevirtual 317, 3) := by decide +kernel
theorem dX11_readFunction_41 : decode cX11_readFunction 41 = .ok (.iinc 1 1, 3) := by decide +kernel
theorem dX11_readFunction_44 : decode cX11_readFunction 44 = .ok (.goto (-42), 3) := by decide +kernel
theorem dX11_readFunction_47 : decode cX11_readFunction 47 = .ok (.aload_n 0, 1) := by decide +kernel
theorem dX11_readFunction_48 : decode cX11_readFunction 48 = .ok (.getfield 286, 3) := by decide +kernel
theorem dX11_readFunction_51 : decode cX11_readFunction 51 = .ok (.iconst 3, 1) := by decide +kernel
theorem dX11_readFunction_52 : decode cX11_readFunction 52 = .ok (.if_icmp .ne 21, 3) := by decide +kernel
theorem dX11_readFunction_55 : decode cX11_readFunction 55 = .ok (.aload_n 0, 1) := by decide +kernel
theorem dX11_readFunction_56 : decode cX11_readFunction 56 = .ok (.getfield 462, 3) := by decide +kernel
theorem dX11_readFunction_59 : decode cX11_readFunction 59 = .ok (.bipush 30, 2) := by decide +kernel
theorem dX11_readFunction_61 : decode cX11_readFunction 61 = .ok (.if_icmp .ne 12, 3) := by decide +kernel
theorem dX11_readFunction_64 : decode cX11_readFunction 64 = .ok (.aload_n 0, 1) := by decide +kernel
theorem dX11_readFunction_65 : decode cX11_readFunction 65 = .ok (.iconst 4, 1) := by decide +kernel
theorem dX11_readFunction_66 : decode cX11_readFunction 66 = .ok (.aload_n 0, 1) := by decide +kernel
theorem dX11_readFunction_67 : decode cX11_readFunction 67 = .ok (.getfield 275, 3) := by decide +kernel
theorem dX11_readFunction_70 : decode cX11_readFunction 70 = .ok (.invokevirtual 317, 3) := by decide +kernel
theorem dX11_readFunction_73 : decode cX11_readFunction 73 = .ok (.aload_n 0, 1) := by decide +kernel
theorem dX11_readFunction_74 : decode cX11_readFunction 74 = .ok (.getfield 327, 3) := by decide +kernel
theorem dX11_readFunction_77 : decode cX11_readFunction 77 = .ok (.sipush 3200, 3) := by decide +kernel
theorem dX11_readFunction_80 : decode cX11_readFunction 80 = .ok (.if_icmp .ge 12, 3) := by decide +kernel
theorem dX11_readFunction_83 : decode cX11_readFunction 83 = .ok (.aload_n 0, 1) := by decide +kernel
theorem dX11_readFunction_84 : decode cX11_readFunction 84 = .ok (.bipush 12, 2) := by decide +kernel
theorem dX11_readFunction_86 : decode cX11_readFunction 86 = .ok (.invokevirtual 369, 3) := by decide +kernel
theorem dX11_readFunction_89 : decode cX11_readFunction 89 = .ok (.goto 4, 3) := by decide +kernel
theorem dX11_readFunction_92 : decode cX11_readFunction 92 = .ok (.iconst 0, 1) := by decide +kernel
theorem dX11_readFunction_93 : decode cX11_readFunction 93 = .ok (.istore_n 1, 1) := by decide +kernel
theorem dX11_readFunction_94 : decode cX11_readFunction 94 = .ok (.aload_n 0, 1) := by decide +kernel
theorem dX11_readFunction_95 : decode cX11_readFunction 95 = .ok (.getfield 462, 3) := by decide +kernel
theorem dX11_readFunction_98 : decode cX11_readFunction 98 = .ok (.istore_n 2, 1) := by decide +kernel
theorem dX11_readFunction_99 : decode cX11_readFunction 99 = .ok (.aload_n 0, 1) := by decide +kernel
theorem dX11_readFunction_100 : decode cX11_readFunction 100 = .ok (.getfield 37, 3) := by decide +kernel
theorem dX11_readFunction_103 : decode cX11_readFunction 103 = .ok (.iload_n 1, 1) := by decide +kernel
theorem dX11_readFunction_104 : decode cX11_readFunction 104 = .ok (.aload_n 0, 1) := by decide +kernel
theorem dX11_readFunction_105 : decode cX11_readFunction 105 = .ok (.getfield 278, 3) := by decide +kernel
theorem dX11_readFunction_108 : decode cX11_readFunction 108 = .ok (.lastore, 1) := by decide +kernel
theorem dX11_readFunction_109 : decode cX11_readFunction 109 = .ok (.aload_n 0, 1) := by decide +kernel
theorem dX11_readFunction_110 : decode cX11_readFunction 110 = .ok (.aload_n 0, 1) := by decide +kernel
theorem dX11_readFunction_111 : decode cX11_readFunction 111 = .ok (.getfield 286, 3) := by decide +kernel
theorem dX11_readFunction_114 : decode cX11_readFunction 114 = .ok (.iconst 3, 1) := by decide +kernel
theorem dX11_readFunction_115 : decode cX11_readFunction 115 = .ok (.if_icmp .ne 7, 3) := by decide +kernel
theorem dX11_readFunction_118 : decode cX11_readFunction 118 = .ok (.iconst 1, 1) := by decide +kernel
theorem dX11_readFunction_119 : decode cX11_readFunction 119 = .ok (.goto 4, 3) := by decide +kernel
theorem dX11_readFunction_122 : decode cX11_readFunction 122 = .ok (.iconst 0, 1) := by decide +kernel
theorem dX11_readFunction_123 : decode cX11_readFunction 123 = .ok (.invokevirtual 359, 3) := by decide +kernel
theorem dX11_readFunction_126 : decode cX11_readFunction 126 = .ok (.aload_n 0, 1) := by decide +kernel
theorem dX11_readFunction_127 : decode cX11_readFunction 127 = .ok (.getfield 311, 3) := by decide +kernel
theorem dX11_readFunction_130 : decode cX11_readFunction 130 = .ok (.ifCond .ne 50, 3) := by decide +kernel
theorem dX11_readFunction_133 : decode cX11_readFunction 133 = .ok (.aload_n 0, 1) := by decide +kernel
theorem dX11_readFunction_134 : decode cX11_readFunction 134 = .ok (.getfield 50, 3) := by decide +kernel
theorem dX11_readFunction_137 : decode cX11_readFunction 137 = .ok (.iload_n 2, 1) := by decide +kernel
theorem dX11_readFunction_138 : decode cX11_readFunction 138 = .ok (.aload_n 0, 1) := by decide +kernel
theorem dX11_readFunction_139 : decode cX11_readFunction 139 = .ok (.getfield 37, 3) := by decide +kernel
theorem dX11_readFunction_142 : decode cX11_readFunction 142 = .ok (.iload_n 1, 1) := by decide +kernel
theorem dX11_readFunction_143 : decode cX11_readFunction 143 = .ok (.laload, 1) := by decide +kernel
theorem dX11_readFunction_144 : decode cX11_readFunction 144 = .ok (.lastore, 1) := by decide +kernel
theorem dX11_readFunction_145 : decode cX11_readFunction 145 = .ok (.aload_n 0, 1) := by decide +kernel
theorem dX11_readFunction_146 : decode cX11_readFunction 146 = .ok (.getfield 53, 3) := by decide +kernel
theorem dX11_readFunction_149 : decode cX11_readFunction 149 = .ok (.iload_n 2, 1) := by decide +kernel
theorem dX11_readFunction_150 : decode cX11_readFunction 150 = .ok (.aload_n 0, 1) := by decide +kernel
theorem dX11_readFunction_151 : decode cX11_readFunction 151 = .ok (.getfield 28, 3) := by decide +kernel
theorem dX11_readFunction_154 : decode cX11_readFunction 154 = .ok (.iload_n 1, 1) := by decide +kernel
theorem dX11_readFunction_155 : decode cX11_readFunction 155 = .ok (.iaload, 1) := by decide +kernel
theorem dX11_readFunction_156 : decode cX11_readFunction 156 = .ok (.iastore, 1) := by decide +kernel
theorem dX11_readFunction_157 : decode cX11_readFunction 157 = .ok (.aload_n 0, 1) := by decide +kernel
theorem dX11_readFunction_158 : decode cX11_readFunction 158 = .ok (.getfield 56, 3) := by decide +kernel
theorem dX11_readFunction_161 : decode cX11_readFunction 161 = .ok (.iload_n 2, 1) := by decide +kernel
theorem dX11_readFunction_162 : decode cX11_readFunction 162 = .ok (.iload_n 1, 1) := by decide +kernel
theorem dX11_readFunction_163 : decode cX11_readFunction 163 = .ok (.iastore, 1) := by decide +kernel
theorem dX11_readFunction_164 : decode cX11_readFunction 164 = .ok (.aload_n 0, 1) := by decide +kernel
theorem dX11_readFunction_165 : decode cX11_readFunction 165 = .ok (.dup, 1) := by decide +kernel
theorem dX11_readFunction_166 : decode cX11_readFunction 166 = .ok (.getfield 462, 3) := by decide +kernel
theorem dX11_readFunction_169 : decode cX11_readFunction 169 = .ok (.iconst 1, 1) := by decide +kernel
theorem dX11_readFunction_170 : decode cX11_readFunction 170 = .ok (.iadd, 1) := by decide +kernel
theorem dX11_readFunction_171 : decode cX11_readFunction 171 = .ok (.putfield 462, 3) := by decide +kernel
theorem dX11_readFunction_174 : decode cX11_readFunction 174 = .ok (.aload_n 0, 1) := by decide +kernel
theorem dX11_readFunction_175 : decode cX11_readFunction 175 = .ok (.iload_n 1, 1) := by decide +kernel
theorem dX11_readFunction_176 : decode cX11_readFunction 176 = .ok (.iconst 0, 1) := by decide +kernel
theorem dX11_readFunction_177 : decode cX11_readFunction 177 = .ok (.invokevirtual 380, 3) := by decide +kernel
theorem dX11_readFunction_180 : decode cX11_readFunction 180 = .ok (.aload_n 0, 1) := by decide +kernel
theorem dX11_readFunction_181 : decode cX11_readFunction 181 = .ok (.aload_n 0, 1) := by decide +kernel
theorem dX11_readFunction_182 : decode cX11_readFunction 182 = .ok (.bipush 61, 2) := by decide +kernel
theorem dX11_readFunction_184 : decode cX11_readFunction 184 = .ok (.invokevirtual 383, 3) := by decide +kernel
theorem dX11_readFunction_187 : decode cX11_readFunction 187 = .ok (.invokevirtual 359, 3) := by decide +kernel
theorem dX11_readFunction_190 : decode cX11_readFunction 190 = .ok (.aload_n 0, 1) := by decide +kernel
theorem dX11_readFunction_191 : decode cX11_readFunction 191 = .ok (.getfield 311, 3) := by decide +kernel
theorem dX11_readFunction_194 : decode cX11_readFunction 194 = .ok (.ifCond .ne 8, 3) := by decide +kernel
theorem dX11_readFunction_197 : decode cX11_readFunction 197 = .ok (.aload_n 0, 1) := by decide +kernel
theorem dX11_readFunction_198 : decode cX11_readFunction 198 = .ok (.iload_n 1, 1) := by decide +kernel
theorem dX11_readFunction_199 : decode cX11_readFunction 199 = .ok (.invokevirtual 465, 3) := by decide +kernel
theorem dX11_readFunction_202 : decode cX11_readFunction 202 = .ok (.return_, 1) := by decide +kernel
theorem mw_X11_readFunction : MW yX11_readFunction (Cond.code yX11_readFunction cX11_readFunction 3 (Option.none : Option Jvm.ClassFile.FieldType)) cX11_readFunction 3 (Option.none : Option Jvm.ClassFile.FieldType) 0 := ⟨rfl, ⟨(lw_all_tbl q2994), rfl, (lw_all_tbl q173)⟩, rfl, ⟨by decide, by decide⟩, by decide +kernel⟩
abbrev okt_readFunction_2 (x : Int) : Prop := R32 x
abbrev lvt_readFunction_2 (Γ : Gm) (x : Int) : List (Nat × Value) := [(0, vA (mg Γ) 21), (1, vI x)]
noncomputable def t_readFunction_41 {A : Type} (k_47 : Mo TS A) (l1 : Int) : Mo TS ((Int) ⊕ A) :=
  pr (.inl (w32 (l1 + 1)))
theorem st_readFunction_41 {Γ : Gm} {h : CH} {d : Nat} (hT : HT h) (o : Ok Γ "LazyForgeModel" cX11_readFunction 3 (Option.none : Option Jvm.ClassFile.FieldType) (d + 10)) {A : Type} {K : A → TS → Prop}  (k_47 : Mo TS A) (hk_47 : Sx Γ (fun t => (h, t)) K 47 [(0, vA (mg Γ) 21)] [] (k_47)) (l1 : Int) (hl1 : R32 l1) : Sx Γ (fun t => (h, t)) (KL Γ (fun t => (h, t)) okt_readFunction_2 K 2 (lvt_readFunction_2 Γ) []) 41 [(0, vA (mg Γ) 21), (1, vI l1)] [] (t_readFunction_41 k_47 l1) := by
  unfold t_readFunction_41
  refine r_iinc (j := 1) o dX11_readFunction_41 rfl rfl [(0, vA (mg Γ) 21)] [0] rfl ⟨(Nat.ne_of_beq_eq_false rfl), (fun _ => (vA_cat (mg Γ) 21)), trivial⟩ ?_
  refine s_goto (tgt := 2) o dX11_readFunction_44 (by decide) ?_
  refine r_to [(0, vA (mg Γ) 21), (1, vI (w32 (l1 + 1)))] [1, 0] rfl ?_
  exact s_back (w32_R _) rfl
noncomputable def t_readFunction_2b {A : Type} (k_47 : Mo TS A) (l1 : Int) : Mo TS ((Int) ⊕ A) :=
  bnd (gs 27) fun v1 =>
  if v1 ≤ l1 then
    lo k_47
  else
    bnd (gs 6) fun v2 =>
    if ¬ v2 = 3 then
      t_readFunction_41 k_47 l1
    else
      bnd (rd 28 640 l1) fun v3 =>
      bnd (gs 8) fun v4 =>
      if ¬ v3 = v4 then
        t_readFunction_41 k_47 l1
      else
        bnd (gs 7) fun v5 =>
        bnd (t_fail 2 v5) fun _ =>
        t_readFunction_41 k_47 l1
theorem st_readFunction_2b {Γ : Gm} {h : CH} {d : Nat} (hT : HT h) (o : Ok Γ "LazyForgeModel" cX11_readFunction 3 (Option.none : Option Jvm.ClassFile.FieldType) (d + 10)) {A : Type} {K : A → TS → Prop} (k_47 : Mo TS A) (hk_47 : Sx Γ (fun t => (h, t)) K 47 [(0, vA (mg Γ) 21)] [] (k_47)) (l1 : Int) (hl1 : R32 l1) : Sx Γ (fun t => (h, t)) (KL Γ (fun t => (h, t)) okt_readFunction_2 K 2 (lvt_readFunction_2 Γ) []) 2 [(0, vA (mg Γ) 21), (1, vI l1)] [] (t_readFunction_2b k_47 l1) := by
  unfold t_readFunction_2b
  refine s_iload_n o dX11_readFunction_2 rfl 1 rfl ?_
  refine s_aload_n o dX11_readFunction_3 rfl 0 rfl ?_
  refine r_tgf vI rfl o hT tf_functions tj_functions (lw_all_tbl q2531) dX11_readFunction_4 (fun v1 hv1 => ?_)
  refine s_icmp_ge (tgt := 47) o dX11_readFunction_7 (by decide) hl1 hv1 ?_ ?_
  · refine r_to [(0, vA (mg Γ) 21)] [0] rfl ?_
    exact s_lo hk_47
  · refine s_aload_n o dX11_readFunction_10 rfl 0 rfl ?_
    refine r_tgf vI rfl o hT tf_word tj_word (lw_all_tbl q2510) dX11_readFunction_11 (fun v2 hv2 => ?_)
    refine s_iconst o dX11_readFunction_14 ?_
    refine s_icmp_ne (tgt := 41) o dX11_readFunction_15 (by decide) hv2 (r32 rfl) ?_ ?_
    · exact st_readFunction_41 hT o k_47 hk_47 l1 hl1
    · refine s_aload_n o dX11_readFunction_18 rfl 0 rfl ?_
      refine s_tga (x := 35) o hT tf_functionNames ta_functionNames (lw_all_tbl q2532) dX11_readFunction_19 ?_
      refine s_iload_n o dX11_readFunction_22 rfl 1 rfl ?_
      refine r_tlald o hT tr_functionNames hl1 dX11_readFunction_23 (fun v3 hv3 => ?_)
      refine s_aload_n o dX11_readFunction_24 rfl 0 rfl ?_
      refine r_tgf vJ rfl o hT tf_wordName tj_wordName (lw_all_tbl q2512) dX11_readFunction_25 (fun v4 hv4 => ?_)
      refine s_lcmp_ne (tgt := 41) o dX11_readFunction_28 dX11_readFunction_29 (by decide) hv3 hv4 ?_ ?_
      · exact st_readFunction_41 hT o k_47 hk_47 l1 hl1
      · refine s_aload_n o dX11_readFunction_32 rfl 0 rfl ?_
        refine s_iconst o dX11_readFunction_33 ?_
        refine s_aload_n o dX11_readFunction_34 rfl 0 rfl ?_
        refine r_tgf vI rfl o hT tf_wordPlace tj_wordPlace (lw_all_tbl q2511) dX11_readFunction_35 (fun v5 hv5 => ?_)
        refine s_cv (d := d + 9) (C := "LazyForgeModel") (As := [vI 2, vI v5]) (st := []) o (st_fail (mg Γ) (d + 9) h hT 2 v5 (r32 rfl) hv5) mw_X11_fail rfl (Or.inl (lw_all_tbl q2975)) (lw_all_tbl qs64) (lw_all_tbl q2977) (fun t => rc_t o hT t) wt_0 rfl dX11_readFunction_38 rfl (rs := fun _ => []) (fun _ => rfl) (fun _ _ => ?_)
        exact st_readFunction_41 hT o k_47 hk_47 l1 hl1
noncomputable def t_readFunction_2 {A : Type} (k_47 : Mo TS A) (l1 : Int) : Mo TS A := Loop (fun x => t_readFunction_2b k_47 x) l1
theorem st_readFunction_2 {Γ : Gm} {h : CH} {d : Nat} (hT : HT h) (o : Ok Γ "LazyForgeModel" cX11_readFunction 3 (Option.none : Option Jvm.ClassFile.FieldType) (d + 10)) {A : Type} {K : A → TS → Prop} (k_47 : Mo TS A) (hk_47 : Sx Γ (fun t => (h, t)) K 47 [(0, vA (mg Γ) 21)] [] (k_47)) (l1 : Int) (hl1 : R32 l1) : Sx Γ (fun t => (h, t)) K 2 [(0, vA (mg Γ) 21), (1, vI l1)] [] (t_readFunction_2 k_47 l1) :=
  s_loop okt_readFunction_2 (lvt_readFunction_2 Γ) (fun x hx => st_readFunction_2b hT o k_47 hk_47 x hx) (x := l1) hl1
noncomputable def t_readFunction_180  (l1 : Int) : Mo TS Int :=
  bnd (t_isSign 61) fun v1 =>
  bnd (t_accept v1) fun _ =>
  bnd (gs 10) fun v2 =>
  if ¬ v2 = 0 then
    pr 0
  else
    bnd (t_readE l1) fun _ =>
    pr 0
theorem st_readFunction_180 {Γ : Gm} {h : CH} {d : Nat} (hT : HT h) (o : Ok Γ "LazyForgeModel" cX11_readFunction 3 (Option.none : Option Jvm.ClassFile.FieldType) (d + 10))   (l1 : Int) (hl1 : R32 l1) : Sx Γ (fun t => (h, t)) (fun a s => mt Γ = (0, a, ((h, s) : Wd))) 180 [(0, vA (mg Γ) 21), (1, vI l1)] [] (t_readFunction_180 l1) := by
  unfold t_readFunction_180
  refine s_aload_n o dX11_readFunction_180 rfl 0 rfl ?_
  refine s_aload_n o dX11_readFunction_181 rfl 0 rfl ?_
  refine s_bipush o dX11_readFunction_182 rfl ?_
  refine s_cv (d := d + 9) (C := "LazyForgeModel") (As := [vI 61]) (st := [vA (mg Γ) 21]) o (st_isSign (mg Γ) (d + 9) h hT 61 (r32 rfl)) mw_X11_isSign rfl (Or.inl (lw_all_tbl q2987)) (lw_all_tbl qs67) (lw_all_tbl q2989) (fun t => rc_t o hT t) (wt_A wt_0) rfl dX11_readFunction_184 rfl (rs := fun r => [vI r, vA (mg Γ) 21]) (fun _ => rfl) (fun v1 hv1 => ?_)
  refine s_cv (d := d + 9) (C := "LazyForgeModel") (As := [vI v1]) (st := []) o (st_accept (mg Γ) (d + 5) h hT v1 (hv1 _ rfl)) mw_X11_accept rfl (Or.inl (lw_all_tbl q2979)) (lw_all_tbl qs65) (lw_all_tbl q2981) (fun t => rc_t o hT t) wt_0 rfl dX11_readFunction_187 rfl (rs := fun _ => []) (fun _ => rfl) (fun _ _ => ?_)
  refine s_aload_n o dX11_readFunction_190 rfl 0 rfl ?_
  refine r_tgf vI rfl o hT tf_fault tj_fault (lw_all_tbl q2514) dX11_readFunction_191 (fun v2 hv2 => ?_)
  refine s_if_ne (tgt := 202) o dX11_readFunction_194 (by decide) hv2 ?_ ?_
  · exact s_vret o rfl dX11_readFunction_202 (fun _ hh => hh)
  · refine s_aload_n o dX11_readFunction_197 rfl 0 rfl ?_
    refine s_iload_n o dX11_readFunction_198 rfl 1 rfl ?_
    refine s_cv (d := d + 9) (C := "LazyForgeModel") (As := [vI l1]) (st := []) o (st_readE (mg Γ) d h hT l1 hl1) mw_X11_readE rfl (Or.inl (lw_all_tbl q3015)) (lw_all_tbl qs74) (lw_all_tbl q3017) (fun t => rc_t o hT t) wt_0 rfl dX11_readFunction_199 rfl (rs := fun _ => []) (fun _ => rfl) (fun _ _ => ?_)
    exact s_vret o rfl dX11_readFunction_202 (fun _ hh => hh)
noncomputable def t_readFunction_123  (l1 : Int) (l2 : Int) (k0 : Int) : Mo TS Int :=
  bnd (t_accept k0) fun _ =>
  bnd (gs 10) fun v1 =>
  if ¬ v1 = 0 then
    t_readFunction_180 l1
  else
    bnd (rd 20 3200 l1) fun v2 =>
    bnd (wr 28 640 l2 v2) fun _ =>
    bnd (rd 17 3200 l1) fun v3 =>
    bnd (wr 29 640 l2 v3) fun _ =>
    bnd (wr 30 640 l2 l1) fun _ =>
    bnd (gs 27) fun v4 =>
    bnd (ss 27 (w32 (v4 + 1))) fun _ =>
    bnd (t_parameters l1 0) fun _ =>
    t_readFunction_180 l1
theorem st_readFunction_123 {Γ : Gm} {h : CH} {d : Nat} (hT : HT h) (o : Ok Γ "LazyForgeModel" cX11_readFunction 3 (Option.none : Option Jvm.ClassFile.FieldType) (d + 10))   (l1 : Int) (l2 : Int) (k0 : Int) (hl1 : R32 l1) (hl2 : R32 l2) (hk0 : rg .boolean k0) : Sx Γ (fun t => (h, t)) (fun a s => mt Γ = (0, a, ((h, s) : Wd))) 123 [(0, vA (mg Γ) 21), (1, vI l1), (2, vI l2)] [vI k0, vA (mg Γ) 21] (t_readFunction_123 l1 l2 k0) := by
  unfold t_readFunction_123
  refine s_cv (d := d + 9) (C := "LazyForgeModel") (As := [vI k0]) (st := []) o (st_accept (mg Γ) (d + 5) h hT k0 hk0) mw_X11_accept rfl (Or.inl (lw_all_tbl q2979)) (lw_all_tbl qs65) (lw_all_tbl q2981) (fun t => rc_t o hT t) wt_0 rfl dX11_readFunction_123 rfl (rs := fun _ => []) (fun _ => rfl) (fun _ _ => ?_)
  refine s_aload_n o dX11_readFunction_126 rfl 0 rfl ?_
  refine r_tgf vI rfl o hT tf_fault tj_fault (lw_all_tbl q2514) dX11_readFunction_127 (fun v1 hv1 => ?_)
  refine s_if_ne (tgt := 180) o dX11_readFunction_130 (by decide) hv1 ?_ ?_
  · refine r_to [(0, vA (mg Γ) 21), (1, vI l1)] [0, 1] rfl ?_
    exact st_readFunction_180 hT o l1 hl1
  · refine s_aload_n o dX11_readFunction_133 rfl 0 rfl ?_
    refine s_tga (x := 35) o hT tf_functionNames ta_functionNames (lw_all_tbl q2532) dX11_readFunction_134 ?_
    refine s_iload_n o dX11_readFunction_137 rfl 2 rfl ?_
    refine s_aload_n o dX11_readFunction_138 rfl 0 rfl ?_
    refine s_tga (x := 31) o hT tf_nodeNames ta_nodeNames (lw_all_tbl q2524) dX11_readFunction_139 ?_
    refine s_iload_n o dX11_readFunction_142 rfl 1 rfl ?_
    refine r_tlald o hT tr_nodeNames hl1 dX11_readFunction_143 (fun v2 hv2 => ?_)
    refine r_tlast o hT tr_functionNames hl2 hv2 dX11_readFunction_144 ?_
    refine s_aload_n o dX11_readFunction_145 rfl 0 rfl ?_
    refine s_tga (x := 36) o hT tf_functionPlaces ta_functionPlaces (lw_all_tbl q2533) dX11_readFunction_146 ?_
    refine s_iload_n o dX11_readFunction_149 rfl 2 rfl ?_
    refine s_aload_n o dX11_readFunction_150 rfl 0 rfl ?_
    refine s_tga (x := 28) o hT tf_places ta_places (lw_all_tbl q2521) dX11_readFunction_151 ?_
    refine s_iload_n o dX11_readFunction_154 rfl 1 rfl ?_
    refine r_tiald o hT tr_places hl1 dX11_readFunction_155 (fun v3 hv3 => ?_)
    refine r_tiast o hT tr_functionPlaces hl2 hv3 dX11_readFunction_156 ?_
    refine s_aload_n o dX11_readFunction_157 rfl 0 rfl ?_
    refine s_tga (x := 37) o hT tf_functionNodes ta_functionNodes (lw_all_tbl q2534) dX11_readFunction_158 ?_
    refine s_iload_n o dX11_readFunction_161 rfl 2 rfl ?_
    refine s_iload_n o dX11_readFunction_162 rfl 1 rfl ?_
    refine r_tiast o hT tr_functionNodes hl2 hl1 dX11_readFunction_163 ?_
    refine s_aload_n o dX11_readFunction_164 rfl 0 rfl ?_
    refine s_dup o dX11_readFunction_165 (vA_cat (mg Γ) 21) ?_
    refine r_tgf vI rfl o hT tf_functions tj_functions (lw_all_tbl q2531) dX11_readFunction_166 (fun v4 hv4 => ?_)
    refine s_iconst o dX11_readFunction_169 ?_
    refine s_iadd o dX11_readFunction_170 ?_
    refine r_tpf vI rfl o hT tf_functions tj_functions (lw_all_tbl q2531) dX11_readFunction_171 (w32_R _) ty_int ?_
    refine s_aload_n o dX11_readFunction_174 rfl 0 rfl ?_
    refine s_iload_n o dX11_readFunction_175 rfl 1 rfl ?_
    refine s_iconst o dX11_readFunction_176 ?_
    refine s_cv (d := d + 9) (C := "LazyForgeModel") (As := [vI l1, vI 0]) (st := []) o (st_parameters (mg Γ) (d + 4) h hT l1 0 hl1 (r32 rfl)) mw_X11_parameters rfl (Or.inl (lw_all_tbl q2999)) (lw_all_tbl qs70) (lw_all_tbl q3001) (fun t => rc_t o hT t) wt_0 rfl dX11_readFunction_177 rfl (rs := fun _ => []) (fun _ => rfl) (fun _ _ => ?_)
    refine r_to [(0, vA (mg Γ) 21), (1, vI l1)] [0, 1] rfl ?_
    exact st_readFunction_180 hT o l1 hl1
noncomputable def t_readFunction_93  (k0 : Int) : Mo TS Int :=
  bnd (gs 27) fun v1 =>
  bnd (gs 8) fun v2 =>
  bnd (wr 20 3200 k0 v2) fun _ =>
  bnd (gs 6) fun v3 =>
  if ¬ v3 = 3 then
    t_readFunction_123 k0 v1 0
  else
    t_readFunction_123 k0 v1 1
theorem st_readFunction_93 {Γ : Gm} {h : CH} {d : Nat} (hT : HT h) (o : Ok Γ "LazyForgeModel" cX11_readFunction 3 (Option.none : Option Jvm.ClassFile.FieldType) (d + 10))   (k0 : Int) (hk0 : R32 k0) : Sx Γ (fun t => (h, t)) (fun a s => mt Γ = (0, a, ((h, s) : Wd))) 93 [(0, vA (mg Γ) 21)] [vI k0] (t_readFunction_93 k0) := by
  unfold t_readFunction_93
  refine r_istore_n o dX11_readFunction_93 rfl rfl ⟨(Nat.ne_of_beq_eq_false rfl), (fun _ => (vA_cat (mg Γ) 21)), trivial⟩ ?_
  refine s_aload_n o dX11_readFunction_94 rfl 1 rfl ?_
  refine r_tgf vI rfl o hT tf_functions tj_functions (lw_all_tbl q2531) dX11_readFunction_95 (fun v1 hv1 => ?_)
  refine r_istore_n o dX11_readFunction_98 rfl rfl ⟨(Nat.ne_of_beq_eq_false rfl), (fun _ => rfl), ⟨(Nat.ne_of_beq_eq_false rfl), (fun _ => (vA_cat (mg Γ) 21)), trivial⟩⟩ ?_
  refine s_aload_n o dX11_readFunction_99 rfl 2 rfl ?_
  refine s_tga (x := 31) o hT tf_nodeNames ta_nodeNames (lw_all_tbl q2524) dX11_readFunction_100 ?_
  refine s_iload_n o dX11_readFunction_103 rfl 1 rfl ?_
  refine s_aload_n o dX11_readFunction_104 rfl 2 rfl ?_
  refine r_tgf vJ rfl o hT tf_wordName tj_wordName (lw_all_tbl q2512) dX11_readFunction_105 (fun v2 hv2 => ?_)
  refine r_tlast o hT tr_nodeNames hk0 hv2 dX11_readFunction_108 ?_
  refine s_aload_n o dX11_readFunction_109 rfl 2 rfl ?_
  refine s_aload_n o dX11_readFunction_110 rfl 2 rfl ?_
  refine r_tgf vI rfl o hT tf_word tj_word (lw_all_tbl q2510) dX11_readFunction_111 (fun v3 hv3 => ?_)
  refine s_iconst o dX11_readFunction_114 ?_
  refine s_icmp_ne (tgt := 122) o dX11_readFunction_115 (by decide) hv3 (r32 rfl) ?_ ?_
  · refine s_iconst o dX11_readFunction_122 ?_
    refine r_to [(0, vA (mg Γ) 21), (1, vI k0), (2, vI v1)] [2, 1, 0] rfl ?_
    exact st_readFunction_123 hT o k0 v1 0 hk0 hv1 (Or.inl rfl)
  · refine s_iconst o dX11_readFunction_118 ?_
    refine s_goto (tgt := 123) o dX11_readFunction_119 (by decide) ?_
    refine r_to [(0, vA (mg Γ) 21), (1, vI k0), (2, vI v1)] [2, 1, 0] rfl ?_
    exact st_readFunction_123 hT o k0 v1 1 hk0 hv1 (Or.inr rfl)
noncomputable def t_readFunction_73  : Mo TS Int :=
  bnd (gs 12) fun v1 =>
  if 3200 ≤ v1 then
    t_readFunction_93 0
  else
    bnd (t_node 12) fun v2 =>
    t_readFunction_93 v2
theorem st_readFunction_73 {Γ : Gm} {h : CH} {d : Nat} (hT : HT h) (o : Ok Γ "LazyForgeModel" cX11_readFunction 3 (Option.none : Option Jvm.ClassFile.FieldType) (d + 10))   : Sx Γ (fun t => (h, t)) (fun a s => mt Γ = (0, a, ((h, s) : Wd))) 73 [(0, vA (mg Γ) 21)] [] (t_readFunction_73) := by
  unfold t_readFunction_73
  refine s_aload_n o dX11_readFunction_73 rfl 0 rfl ?_
  refine r_tgf vI rfl o hT tf_nodes tj_nodes (lw_all_tbl q2516) dX11_readFunction_74 (fun v1 hv1 => ?_)
  refine s_sipush o dX11_readFunction_77 rfl ?_
  refine s_icmp_ge (tgt := 92) o dX11_readFunction_80 (by decide) hv1 (r32 rfl) ?_ ?_
  · refine s_iconst o dX11_readFunction_92 ?_
    exact st_readFunction_93 hT o 0 (r32 rfl)
  · refine s_aload_n o dX11_readFunction_83 rfl 0 rfl ?_
    refine s_bipush o dX11_readFunction_84 rfl ?_
    refine s_cv (d := d + 9) (C := "LazyForgeModel") (As := [vI 12]) (st := []) o (st_node (mg Γ) (d + 9) h hT 12 (r32 rfl)) mw_X11_node rfl (Or.inl (lw_all_tbl q2995)) (lw_all_tbl qs69) (lw_all_tbl q2997) (fun t => rc_t o hT t) wt_0 rfl dX11_readFunction_86 rfl (rs := fun r => [vI r]) (fun _ => rfl) (fun v2 hv2 => ?_)
    refine s_goto (tgt := 93) o dX11_readFunction_89 (by decide) ?_
    exact st_readFunction_93 hT o v2 (hv2 _ rfl)
noncomputable def t_readFunction : Mo TS Int :=
  t_readFunction_2
    (bnd (gs 6) fun v1 =>
  if ¬ v1 = 3 then
    t_readFunction_73
  else
    bnd (gs 27) fun v2 =>
    if ¬ v2 = 30 then
      t_readFunction_73
    else
      bnd (gs 7) fun v3 =>
      bnd (t_fail 4 v3) fun _ =>
      t_readFunction_73) 0
theorem st_readFunction (g : gC) (d : Nat) (h : CH) (hT : HT h) : SF g yX11_readFunction (Cond.code yX11_readFunction cX11_readFunction 3 (Option.none : Option Jvm.ClassFile.FieldType)) (Option.none : Option Jvm.ClassFile.FieldType) (d + 10) [vA g 21] (fun t => (h, t)) (t_readFunction) := by
  refine SF.of (lv := [(0, vA g 21)]) (by decide) (wt_A wt_0) rfl (by simp only [la_A, la_I, la_J, la_0]) (fun Γ hg hnm o => ?_)
  subst hg
  have o : Ok Γ "LazyForgeModel" cX11_readFunction 3 (Option.none : Option Jvm.ClassFile.FieldType) (d + 10) := o
  unfold t_readFunction
  refine s_iconst o dX11_readFunction_0 ?_
  refine r_istore_n o dX11_readFunction_1 rfl rfl ⟨(Nat.ne_of_beq_eq_false rfl), (fun _ => (vA_cat (mg Γ) 21)), trivial⟩ ?_
  refine r_to [(0, vA (mg Γ) 21), (1, vI 0)] [1, 0] rfl ?_
  refine st_readFunction_2 hT o _ ?_ 0 (r32 rfl)
  · refine s_aload_n o dX11_readFunction_47 rfl 0 rfl ?_
    refine r_tgf vI rfl o hT tf_word tj_word (lw_all_tbl q2510) dX11_readFunction_48 (fun v1 hv1 => ?_)
    refine s_iconst o dX11_readFunction_51 ?_
    refine s_icmp_ne (tgt := 73) o dX11_readFunction_52 (by decide) hv1 (r32 rfl) ?_ ?_
    · exact st_readFunction_73 hT o
    · refine s_aload_n o dX11_readFunction_55 rfl 0 rfl ?_
      refine r_tgf vI rfl o hT tf_functions tj_functions (lw_all_tbl q2531) dX11_readFunction_56 (fun v2 hv2 => ?_)
      refine s_bipush o dX11_readFunction_59 rfl ?_
      refine s_icmp_ne (tgt := 73) o dX11_readFunction_61 (by decide) hv2 (r32 rfl) ?_ ?_
      · exact st_readFunction_73 hT o
      · refine s_aload_n o dX11_readFunction_64 rfl 0 rfl ?_
        refine s_iconst o dX11_readFunction_65 ?_
        refine s_aload_n o dX11_readFunction_66 rfl 0 rfl ?_
        refine r_tgf vI rfl o hT tf_wordPlace tj_wordPlace (lw_all_tbl q2511) dX11_readFunction_67 (fun v3 hv3 => ?_)
        refine s_cv (d := d + 9) (C := "LazyForgeModel") (As := [vI 4, vI v3]) (st := []) o (st_fail (mg Γ) (d + 9) h hT 4 v3 (r32 rfl) hv3) mw_X11_fail rfl (Or.inl (lw_all_tbl q2975)) (lw_all_tbl qs64) (lw_all_tbl q2977) (fun t => rc_t o hT t) wt_0 rfl dX11_readFunction_70 rfl (rs := fun _ => []) (fun _ => rfl) (fun _ _ => ?_)
        exact st_readFunction_73 hT o
theorem dX11_readProgram_0 : decode cX11_readProgram 0 = .ok (.aload_n 0, 1) := by decide +kernel
theorem dX11_readProgram_1 : decode cX11_readProgram 1 = .ok (.iconst 0, 1) := by decide +kernel
theorem dX11_readProgram_2 : decode cX11_readProgram 2 = .ok (.putfield 311, 3) := by decide +kernel
theorem dX11_readProgram_5 : decode cX11_readProgram 5 = .ok (.aload_n 0, 1) := by decide +kernel
theorem dX11_readProgram_6 : decode cX11_readProgram 6 = .ok (.iconst 0, 1) := by decide +kernel
theorem dX11_readProgram_7 : decode cX11_readProgram 7 = .ok (.putfield 327, 3) := by decide +kernel
theorem dX11_readProgram_10 : decode cX11_readProgram 10 = .ok (.aload_n 0, 1) := by decide +kernel
theorem dX11_readProgram_11 : decode cX11_readProgram 11 = .ok (.iconst 0, 1) := by decide +kernel
theorem dX11_readProgram_12 : decode cX11_readProgram 12 = .ok (.putfield 330, 3) := by decide +kernel
theorem dX11_readProgram_15 : decode cX11_readProgram 15 = .ok (.aload_n 0, 1) := by decide +kernel
theorem dX11_readProgram_16 : decode cX11_readProgram 16 = .ok (.iconst 0, 1) := by decide +kernel
theorem dX11_readProgram_17 : decode cX11_readProgram 17 = .ok (.putfield 333, 3) := by decide +kernel
theorem dX11_readProgram_20 : decode cX11_readProgram 20 = .ok (.aload_n 0, 1) := by decide +kernel
theorem dX11_readProgram_21 : decode cX11_readProgram 21 = .ok (.iconst 0, 1) := by decide +kernel
theorem dX11_readProgram_22 : decode cX11_readProgram 22 = .ok (.putfield 462, 3) := by decide +kernel
theorem dX11_readProgram_25 : decode cX11_readProgram 25 = .ok (.aload_n 0, 1) := by decide +kernel
theorem dX11_readProgram_26 : decode cX11_readProgram 26 = .ok (.iconst 0, 1) := by decide +kernel
theorem dX11_readProgram_27 : decode cX11_readProgram 27 = .ok (.putfield 339, 3) := by decide +kernel
theorem dX11_readProgram_30 : decode cX11_readProgram 30 = .ok (.aload_n 0, 1) := by decide +kernel
theorem dX11_readProgram_31 : decode cX11_readProgram 31 = .ok (.iconst 0, 1) := by decide +kernel
theorem dX11_readProgram_32 : decode cX11_readProgram 32 = .ok (.putfield 342, 3) := by decide +kernel
theorem dX11_readProgram_35 : decode cX11_readProgram 35 = .ok (.aload_n 0, 1) := by decide +kernel
theorem dX11_readProgram_36 : decode cX11_readProgram 36 = .ok (.iconst 0, 1) := by decide +kernel
theorem dX11_readProgram_37 : decode cX11_readProgram 37 = .ok (.putfield 345, 3) := by decide +kernel
theorem dX11_readProgram_40 : decode cX11_readProgram 40 = .ok (.aload_n 0, 1) := by decide +kernel
theorem dX11_readProgram_41 : decode cX11_readProgram 41 = .ok (.iconst 0, 1) := by decide +kernel
theorem dX11_readProgram_42 : decode cX11_readProgram 42 = .ok (.putfield 261, 3) := by decide +kernel
theorem dX11_readProgram_45 : decode cX11_readProgram 45 = .ok (.aload_n 0, 1) := by decide +kernel
theorem dX11_readProgram_46 : decode cX11_readProgram 46 = .ok (.iconst 2, 1) := by decide +kernel
theorem dX11_readProgram_47 : decode cX11_readProgram 47 = .ok (.putfield 348, 3) := by decide +kernel
theorem dX11_readProgram_50 : decode cX11_readProgram 50 = .ok (.aload_n 0, 1) := by decide +kernel
theorem dX11_readProgram_51 : decode cX11_readProgram 51 = .ok (.getfield 59, 3) := by decide +kernel
theorem dX11_readProgram_54 : decode cX11_readProgram 54 = .ok (.iconst 0, 1) := by decide +kernel
theorem dX11_readProgram_55 : decode cX11_readProgram 55 = .ok (.bipush 70, 2) := by decide +kernel
theorem dX11_readProgram_57 : decode cX11_readProgram 57 = .ok (.bipush 97, 2) := by decide +kernel
theorem dX11_readProgram_59 : decode cX11_readProgram 59 = .ok (.bipush 108, 2) := by decide +kernel
theorem dX11_readProgram_61 : decode cX11_readProgram 61 = .ok (.bipush 115, 2) := by decide +kernel
theorem dX11_readProgram_63 : decode cX11_readProgram 63 = .ok (.bipush 101, 2) := by decide +kernel
theorem dX11_readProgram_65 : decode cX11_readProgram 65 = .ok (.invokestatic 257, 3) := by decide +kernel
theorem dX11_readProgram_68 : decode cX11_readProgram 68 = .ok (.lastore, 1) := by decide +kernel
theorem dX11_readProgram_69 : decode cX11_readProgram 69 = .ok (.aload_n 0, 1) := by decide +kernel
theorem dX11_readProgram_70 : decode cX11_readProgram 70 = .ok (.getfield 59, 3) := by decide +kernel
theorem dX11_readProgram_73 : decode cX11_readProgram 73 = .ok (.iconst 1, 1) := by decide +kernel
theorem dX11_readProgram_74 : decode cX11_readProgram 74 = .ok (.bipush 84, 2) := by decide +kernel
theorem dX11_readProgram_76 : decode cX11_readProgram 76 = .ok (.bipush 114, 2) := by decide +kernel
theorem dX11_readProgram_78 : decode cX11_readProgram 78 = .ok (.bipush 117, 2) := by decide +kernel
theorem dX11_readProgram_80 : decode cX11_readProgram 80 = .ok (.bipush 101, 2) := by decide +kernel
theorem dX11_readProgram_82 : decode cX11_readProgram 82 = .ok (.iconst 0, 1) := by decide +kernel
theorem dX11_readProgram_83 : decode cX11_readProgram 83 = .ok (.invokestatic 257, 3) := by decide +kernel
theorem dX11_readProgram_86 : decode cX11_readProgram 86 = .ok (.lastore, 1) := by decide +kernel
theorem dX11_readProgram_87 : decode cX11_readProgram 87 = .ok (.aload_n 0, 1) := by decide +kernel
theorem dX11_readProgram_88 : decode cX11_readProgram 88 = .ok (.getfield 62, 3) := by decide +kernel
theorem dX11_readProgram_91 : decode cX11_readProgram 91 = .ok (.iconst 0, 1) := by decide +kernel
theorem dX11_readProgram_92 : decode cX11_readProgram 92 = .ok (.iconst 0, 1) := by decide +kernel
theorem dX11_readProgram_93 : decode cX11_readProgram 93 = .ok (.iastore, 1) := by decide +kernel
theorem dX11_readProgram_94 : decode cX11_readProgram 94 = .ok (.aload_n 0, 1) := by decide +kernel
theorem dX11_readProgram_95 : decode cX11_readProgram 95 = .ok (.getfield 62, 3) := by decide +kernel
theorem dX11_readProgram_98 : decode cX11_readProgram 98 = .ok (.iconst 1, 1) := by decide +kernel
theorem dX11_readProgram_99 : decode cX11_readProgram 99 = .ok (.iconst 0, 1) := by decide +kernel
theorem dX11_readProgram_100 : decode cX11_readProgram 100 = .ok (.iastore, 1) := by decide +kernel
theorem dX11_readProgram_101 : decode cX11_readProgram 101 = .ok (.aload_n 0, 1) := by decide +kernel
theorem dX11_readProgram_102 : decode cX11_readProgram 102 = .ok (.invokevirtual 321, 3) := by decide +kernel
theorem dX11_readProgram_105 : decode cX11_readProgram 105 = .ok (.aload_n 0, 1) := by decide +kernel
theorem dX11_readProgram_106 : decode cX11_readProgram 106 = .ok (.getfield 311, 3) := by decide +kernel
theorem dX11_readProgram_109 : decode cX11_readProgram 109 = .ok (.ifCond .ne 23, 3) := by decide +kernel
theorem dX11_readProgram_112 : decode cX11_readProgram 112 = .ok (.aload_n 0, 1) := by decide +kernel
theorem dX11_readProgram_113 : decode cX11_readProgram 113 = .ok (.getfield 286, 3) := by decide +kernel
theorem dX11_readProgram_116 : decode cX11_readProgram 116 = .ok (.bipush 10, 2) := by decide +kernel
theorem dX11_readProgram_118 : decode cX11_readProgram 118 = .ok (.if_icmp .ne 14, 3) := by decide +kernel
theorem dX11_readProgram_121 : decode cX11_readProgram 121 = .ok (.aload_n 0, 1) := by decide +kernel
theorem dX11_readProgram_122 : decode cX11_readProgram 122 = .ok (.invokevirtual 321, 3) := by decide +kernel
theorem dX11_readProgram_125 : decode cX11_readProgram 125 = .ok (.aload_n 0, 1) := by decide +kernel
theorem dX11_readProgram_126 : decode cX11_readProgram 126 = .ok (.invokevirtual 468, 3) := by decide +kernel
theorem dX11_readProgram_129 : decode cX11_readProgram 129 = .ok (.goto (-24), 3) := by decide +kernel
theorem dX11_readProgram_132 : decode cX11_readProgram 132 = .ok (.aload_n 0, 1) := by decide +kernel
theorem dX11_readProgram_133 : decode cX11_readProgram 133 = .ok (.getfield 311, 3) := by decide +kernel
theorem dX11_readProgram_136 : decode cX11_readProgram 136 = .ok (.ifCond .ne 7, 3) := by decide +kernel
theorem dX11_readProgram_139 : decode cX11_readProgram 139 = .ok (.iconst 1, 1) := by decide +kernel
theorem dX11_readProgram_140 : decode cX11_readProgram 140 = .ok (.goto 4, 3) := by decide +kernel
theorem dX11_readProgram_143 : decode cX11_readProgram 143 = .ok (.iconst 0, 1) := by decide +kernel
theorem dX11_readProgram_144 : decode cX11_readProgram 144 = .ok (.istore_n 1, 1) := by decide +kernel
theorem dX11_readProgram_145 : decode cX11_readProgram 145 = .ok (.iload_n 1, 1) := by decide +kernel
theorem dX11_readProgram_146 : decode cX11_readProgram 146 = .ok (.ifCond .eq 30, 3) := by decide +kernel
theorem dX11_readProgram_149 : decode cX11_readProgram 149 = .ok (.aload_n 0, 1) := by decide +kernel
theorem dX11_readProgram_150 : decode cX11_readProgram 150 = .ok (.invokevirtual 471, 3) := by decide +kernel
theorem dX11_readProgram_153 : decode cX11_readProgram 153 = .ok (.aload_n 0, 1) := by decide +kernel
theorem dX11_readProgram_154 : decode cX11_readProgram 154 = .ok (.getfield 311, 3) := by decide +kernel
theorem dX11_readProgram_157 : decode cX11_readProgram 157 = .ok (.ifCond .ne 14, 3) := by decide +kernel
theorem dX11_readProgram_160 : decode cX11_readProgram 160 = .ok (.aload_n 0, 1) := by decide +kernel
theorem dX11_readProgram_161 : decode cX11_readProgram 161 = .ok (.getfield 286, 3) := by decide +kernel
theorem dX11_readProgram_164 : decode cX11_readProgram 164 = .ok (.ifCond .eq 7, 3) := by decide +kernel
theorem dX11_readProgram_167 : decode cX11_readProgram 167 = .ok (.iconst 1, 1) := by decide +kernel
theorem dX11_readProgram_168 : decode cX11_readProgram 168 = .ok (.goto 4, 3) := by decide +kernel
theorem dX11_readProgram_171 : decode cX11_readProgram 171 = .ok (.iconst 0, 1) := by decide +kernel
theorem dX11_readProgram_172 : decode cX11_readProgram 172 = .ok (.istore_n 1, 1) := by decide +kernel
theorem dX11_readProgram_173 : decode cX11_readProgram 173 = .ok (.goto (-28), 3) := by decide +kernel
theorem dX11_readProgram_176 : decode cX11_readProgram 176 = .ok (.return_, 1) := by decide +kernel
theorem mw_X11_readProgram : MW yX11_readProgram (Cond.code yX11_readProgram cX11_readProgram 2 (Option.none : Option Jvm.ClassFile.FieldType)) cX11_readProgram 2 (Option.none : Option Jvm.ClassFile.FieldType) 0 := ⟨rfl, ⟨(lw_all_tbl q2928), rfl, (lw_all_tbl q173)⟩, rfl, ⟨by decide, by decide⟩, by decide +kernel⟩
abbrev okt_readProgram_105 (x : Unit) : Prop := True
abbrev lvt_readProgram_105 (Γ : Gm) (x : Unit) : List (Nat × Value) := [(0, vA (mg Γ) 21)]
noncomputable def t_readProgram_105b {A : Type} (k_132 : Mo TS A) : Mo TS ((Unit) ⊕ A) :=
  bnd (gs 10) fun v1 =>
  if ¬ v1 = 0 then
    lo k_132
  else
    bnd (gs 6) fun v2 =>
    if ¬ v2 = 10 then
      lo k_132
    else
      bnd (t_next) fun _ =>
      bnd (t_readData) fun _ =>
      pr (.inl ())
theorem st_readProgram_105b {Γ : Gm} {h : CH} {d : Nat} (hT : HT h) (o : Ok Γ "LazyForgeModel" cX11_readProgram 2 (Option.none : Option Jvm.ClassFile.FieldType) (d + 11)) {A : Type} {K : A → TS → Prop} (k_132 : Mo TS A) (hk_132 : Sx Γ (fun t => (h, t)) K 132 [(0, vA (mg Γ) 21)] [] (k_132)) : Sx Γ (fun t => (h, t)) (KL Γ (fun t => (h, t)) okt_readProgram_105 K 105 (lvt_readProgram_105 Γ) []) 105 [(0, vA (mg Γ) 21)] [] (t_readProgram_105b k_132) := by
  unfold t_readProgram_105b
  refine s_aload_n o dX11_readProgram_105 rfl 0 rfl ?_
  refine r_tgf vI rfl o hT tf_fault tj_fault (lw_all_tbl q2514) dX11_readProgram_106 (fun v1 hv1 => ?_)
  refine s_if_ne (tgt := 132) o dX11_readProgram_109 (by decide) hv1 ?_ ?_
  · exact s_lo hk_132
  · refine s_aload_n o dX11_readProgram_112 rfl 0 rfl ?_
    refine r_tgf vI rfl o hT tf_word tj_word (lw_all_tbl q2510) dX11_readProgram_113 (fun v2 hv2 => ?_)
    refine s_bipush o dX11_readProgram_116 rfl ?_
    refine s_icmp_ne (tgt := 132) o dX11_readProgram_118 (by decide) hv2 (r32 rfl) ?_ ?_
    · exact s_lo hk_132
    · refine s_aload_n o dX11_readProgram_121 rfl 0 rfl ?_
      refine s_cv (d := d + 10) (C := "LazyForgeModel") (As := []) (st := []) o (st_next (mg Γ) (d + 7) h hT) mw_X11_next rfl (Or.inl (lw_all_tbl q2932)) (lw_all_tbl qs57) (lw_all_tbl q2934) (fun t => rc_t o hT t) wt_0 rfl dX11_readProgram_122 rfl (rs := fun _ => []) (fun _ => rfl) (fun _ _ => ?_)
      refine s_aload_n o dX11_readProgram_125 rfl 0 rfl ?_
      refine s_cv (d := d + 10) (C := "LazyForgeModel") (As := []) (st := []) o (st_readData (mg Γ) (d + 5) h hT) mw_X11_readData rfl (Or.inl (lw_all_tbl q2967)) (lw_all_tbl qs62) (lw_all_tbl q2969) (fun t => rc_t o hT t) wt_0 rfl dX11_readProgram_126 rfl (rs := fun _ => []) (fun _ => rfl) (fun _ _ => ?_)
      refine s_goto (tgt := 105) o dX11_readProgram_129 (by decide) ?_
      exact s_back trivial rfl
noncomputable def t_readProgram_105 {A : Type} (k_132 : Mo TS A) : Mo TS A := Loop (fun x => t_readProgram_105b k_132) ()
theorem st_readProgram_105 {Γ : Gm} {h : CH} {d : Nat} (hT : HT h) (o : Ok Γ "LazyForgeModel" cX11_readProgram 2 (Option.none : Option Jvm.ClassFile.FieldType) (d + 11)) {A : Type} {K : A → TS → Prop} (k_132 : Mo TS A) (hk_132 : Sx Γ (fun t => (h, t)) K 132 [(0, vA (mg Γ) 21)] [] (k_132)) : Sx Γ (fun t => (h, t)) K 105 [(0, vA (mg Γ) 21)] [] (t_readProgram_105 k_132) :=
  s_loop okt_readProgram_105 (lvt_readProgram_105 Γ) (fun x hx => st_readProgram_105b hT o k_132 hk_132) (x := ()) trivial
abbrev okt_readProgram_145 (x : Int) : Prop := rg .boolean x
abbrev lvt_readProgram_145 (Γ : Gm) (x : Int) : List (Nat × Value) := [(0, vA (mg Γ) 21), (1, vI x)]
noncomputable def t_readProgram_172 {A : Type} (k_176 : Mo TS A) (k0 : Int) : Mo TS ((Int) ⊕ A) :=
  pr (.inl k0)
theorem st_readProgram_172 {Γ : Gm} {h : CH} {d : Nat} (hT : HT h) (o : Ok Γ "LazyForgeModel" cX11_readProgram 2 (Option.none : Option Jvm.ClassFile.FieldType) (d + 11)) {A : Type} {K : A → TS → Prop}  (k_176 : Mo TS A) (hk_176 : Sx Γ (fun t => (h, t)) K 176 [] [] (k_176)) (k0 : Int) (hk0 : rg .boolean k0) : Sx Γ (fun t => (h, t)) (KL Γ (fun t => (h, t)) okt_readProgram_145 K 145 (lvt_readProgram_145 Γ) []) 172 [(0, vA (mg Γ) 21)] [vI k0] (t_readProgram_172 k_176 k0) := by
  unfold t_readProgram_172
  refine r_istore_n o dX11_readProgram_172 rfl rfl ⟨(Nat.ne_of_beq_eq_false rfl), (fun _ => (vA_cat (mg Γ) 21)), trivial⟩ ?_
  refine s_goto (tgt := 145) o dX11_readProgram_173 (by decide) ?_
  refine r_to [(0, vA (mg Γ) 21), (1, vI k0)] [1, 0] rfl ?_
  exact s_back hk0 rfl
noncomputable def t_readProgram_171 {A : Type} (k_176 : Mo TS A) : Mo TS ((Int) ⊕ A) :=
  t_readProgram_172 k_176 0
theorem st_readProgram_171 {Γ : Gm} {h : CH} {d : Nat} (hT : HT h) (o : Ok Γ "LazyForgeModel" cX11_readProgram 2 (Option.none : Option Jvm.ClassFile.FieldType) (d + 11)) {A : Type} {K : A → TS → Prop}  (k_176 : Mo TS A) (hk_176 : Sx Γ (fun t => (h, t)) K 176 [] [] (k_176)) : Sx Γ (fun t => (h, t)) (KL Γ (fun t => (h, t)) okt_readProgram_145 K 145 (lvt_readProgram_145 Γ) []) 171 [(0, vA (mg Γ) 21)] [] (t_readProgram_171 k_176) := by
  unfold t_readProgram_171
  refine s_iconst o dX11_readProgram_171 ?_
  exact st_readProgram_172 hT o k_176 hk_176 0 (Or.inl rfl)
noncomputable def t_readProgram_145b {A : Type} (k_176 : Mo TS A) (l1 : Int) : Mo TS ((Int) ⊕ A) :=
  if l1 = 0 then
    lo k_176
  else
    bnd (t_readFunction) fun _ =>
    bnd (gs 10) fun v1 =>
    if ¬ v1 = 0 then
      t_readProgram_171 k_176
    else
      bnd (gs 6) fun v2 =>
      if v2 = 0 then
        t_readProgram_171 k_176
      else
        t_readProgram_172 k_176 1
theorem st_readProgram_145b {Γ : Gm} {h : CH} {d : Nat} (hT : HT h) (o : Ok Γ "LazyForgeModel" cX11_readProgram 2 (Option.none : Option Jvm.ClassFile.FieldType) (d + 11)) {A : Type} {K : A → TS → Prop} (k_176 : Mo TS A) (hk_176 : Sx Γ (fun t => (h, t)) K 176 [] [] (k_176)) (l1 : Int) (hl1 : rg .boolean l1) : Sx Γ (fun t => (h, t)) (KL Γ (fun t => (h, t)) okt_readProgram_145 K 145 (lvt_readProgram_145 Γ) []) 145 [(0, vA (mg Γ) 21), (1, vI l1)] [] (t_readProgram_145b k_176 l1) := by
  unfold t_readProgram_145b
  refine s_iload_n o dX11_readProgram_145 rfl 1 rfl ?_
  refine s_if_eq (tgt := 176) o dX11_readProgram_146 (by decide) (rZ hl1) ?_ ?_
  · refine r_to [] [] rfl ?_
    exact s_lo hk_176
  · refine s_aload_n o dX11_readProgram_149 rfl 0 rfl ?_
    refine s_cv (d := d + 10) (C := "LazyForgeModel") (As := []) (st := []) o (st_readFunction (mg Γ) d h hT) mw_X11_readFunction rfl (Or.inl (lw_all_tbl q2991)) (lw_all_tbl qs68) (lw_all_tbl q2993) (fun t => rc_t o hT t) wt_0 rfl dX11_readProgram_150 rfl (rs := fun _ => []) (fun _ => rfl) (fun _ _ => ?_)
    refine s_aload_n o dX11_readProgram_153 rfl 0 rfl ?_
    refine r_tgf vI rfl o hT tf_fault tj_fault (lw_all_tbl q2514) dX11_readProgram_154 (fun v1 hv1 => ?_)
    refine s_if_ne (tgt := 171) o dX11_readProgram_157 (by decide) hv1 ?_ ?_
    · refine r_to [(0, vA (mg Γ) 21)] [0] rfl ?_
      exact st_readProgram_171 hT o k_176 hk_176
    · refine s_aload_n o dX11_readProgram_160 rfl 0 rfl ?_
      refine r_tgf vI rfl o hT tf_word tj_word (lw_all_tbl q2510) dX11_readProgram_161 (fun v2 hv2 => ?_)
      refine s_if_eq (tgt := 171) o dX11_readProgram_164 (by decide) hv2 ?_ ?_
      · refine r_to [(0, vA (mg Γ) 21)] [0] rfl ?_
        exact st_readProgram_171 hT o k_176 hk_176
      · refine s_iconst o dX11_readProgram_167 ?_
        refine s_goto (tgt := 172) o dX11_readProgram_168 (by decide) ?_
        refine r_to [(0, vA (mg Γ) 21)] [0] rfl ?_
        exact st_readProgram_172 hT o k_176 hk_176 1 (Or.inr rfl)
noncomputable def t_readProgram_145 {A : Type} (k_176 : Mo TS A) (l1 : Int) : Mo TS A := Loop (fun x => t_readProgram_145b k_176 x) l1
theorem st_readProgram_145 {Γ : Gm} {h : CH} {d : Nat} (hT : HT h) (o : Ok Γ "LazyForgeModel" cX11_readProgram 2 (Option.none : Option Jvm.ClassFile.FieldType) (d + 11)) {A : Type} {K : A → TS → Prop} (k_176 : Mo TS A) (hk_176 : Sx Γ (fun t => (h, t)) K 176 [] [] (k_176)) (l1 : Int) (hl1 : rg .boolean l1) : Sx Γ (fun t => (h, t)) K 145 [(0, vA (mg Γ) 21), (1, vI l1)] [] (t_readProgram_145 k_176 l1) :=
  s_loop okt_readProgram_145 (lvt_readProgram_145 Γ) (fun x hx => st_readProgram_145b hT o k_176 hk_176 x hx) (x := l1) hl1
noncomputable def t_readProgram_144  (k0 : Int) : Mo TS Int :=
  t_readProgram_145
    (pr 0) k0
theorem st_readProgram_144 {Γ : Gm} {h : CH} {d : Nat} (hT : HT h) (o : Ok Γ "LazyForgeModel" cX11_readProgram 2 (Option.none : Option Jvm.ClassFile.FieldType) (d + 11))   (k0 : Int) (hk0 : rg .boolean k0) : Sx Γ (fun t => (h, t)) (fun a s => mt Γ = (0, a, ((h, s) : Wd))) 144 [(0, vA (mg Γ) 21)] [vI k0] (t_readProgram_144 k0) := by
  unfold t_readProgram_144
  refine r_istore_n o dX11_readProgram_144 rfl rfl ⟨(Nat.ne_of_beq_eq_false rfl), (fun _ => (vA_cat (mg Γ) 21)), trivial⟩ ?_
  refine r_to [(0, vA (mg Γ) 21), (1, vI k0)] [1, 0] rfl ?_
  refine st_readProgram_145 hT o _ ?_ k0 hk0
  · exact s_vret o rfl dX11_readProgram_176 (fun _ hh => hh)
noncomputable def t_readProgram : Mo TS Int :=
  bnd (ss 10 0) fun _ =>
  bnd (ss 12 0) fun _ =>
  bnd (ss 23 0) fun _ =>
  bnd (ss 25 0) fun _ =>
  bnd (ss 27 0) fun _ =>
  bnd (ss 34 0) fun _ =>
  bnd (ss 35 0) fun _ =>
  bnd (ss 40 0) fun _ =>
  bnd (ss 5 0) fun _ =>
  bnd (ss 31 2) fun _ =>
  bnd (t_pack 70 97 108 115 101) fun v1 =>
  bnd (wr 32 30 0 v1) fun _ =>
  bnd (t_pack 84 114 117 101 0) fun v2 =>
  bnd (wr 32 30 1 v2) fun _ =>
  bnd (wr 33 30 0 0) fun _ =>
  bnd (wr 33 30 1 0) fun _ =>
  bnd (t_next) fun _ =>
  t_readProgram_105
    (bnd (gs 10) fun v3 =>
  if ¬ v3 = 0 then
    t_readProgram_144 0
  else
    t_readProgram_144 1)
theorem st_readProgram (g : gC) (d : Nat) (h : CH) (hT : HT h) : SF g yX11_readProgram (Cond.code yX11_readProgram cX11_readProgram 2 (Option.none : Option Jvm.ClassFile.FieldType)) (Option.none : Option Jvm.ClassFile.FieldType) (d + 11) [vA g 21] (fun t => (h, t)) (t_readProgram) := by
  refine SF.of (lv := [(0, vA g 21)]) (by decide) (wt_A wt_0) rfl (by simp only [la_A, la_I, la_J, la_0]) (fun Γ hg hnm o => ?_)
  subst hg
  have o : Ok Γ "LazyForgeModel" cX11_readProgram 2 (Option.none : Option Jvm.ClassFile.FieldType) (d + 11) := o
  unfold t_readProgram
  refine s_aload_n o dX11_readProgram_0 rfl 0 rfl ?_
  refine s_iconst o dX11_readProgram_1 ?_
  refine r_tpf vI rfl o hT tf_fault tj_fault (lw_all_tbl q2514) dX11_readProgram_2 (r32 rfl) ty_int ?_
  refine s_aload_n o dX11_readProgram_5 rfl 0 rfl ?_
  refine s_iconst o dX11_readProgram_6 ?_
  refine r_tpf vI rfl o hT tf_nodes tj_nodes (lw_all_tbl q2516) dX11_readProgram_7 (r32 rfl) ty_int ?_
  refine s_aload_n o dX11_readProgram_10 rfl 0 rfl ?_
  refine s_iconst o dX11_readProgram_11 ?_
  refine r_tpf vI rfl o hT tf_gives tj_gives (lw_all_tbl q2527) dX11_readProgram_12 (r32 rfl) ty_int ?_
  refine s_aload_n o dX11_readProgram_15 rfl 0 rfl ?_
  refine s_iconst o dX11_readProgram_16 ?_
  refine r_tpf vI rfl o hT tf_parts tj_parts (lw_all_tbl q2529) dX11_readProgram_17 (r32 rfl) ty_int ?_
  refine s_aload_n o dX11_readProgram_20 rfl 0 rfl ?_
  refine s_iconst o dX11_readProgram_21 ?_
  refine r_tpf vI rfl o hT tf_functions tj_functions (lw_all_tbl q2531) dX11_readProgram_22 (r32 rfl) ty_int ?_
  refine s_aload_n o dX11_readProgram_25 rfl 0 rfl ?_
  refine s_iconst o dX11_readProgram_26 ?_
  refine r_tpf vI rfl o hT tf_open tj_open (lw_all_tbl q2538) dX11_readProgram_27 (r32 rfl) ty_int ?_
  refine s_aload_n o dX11_readProgram_30 rfl 0 rfl ?_
  refine s_iconst o dX11_readProgram_31 ?_
  refine r_tpf vI rfl o hT tf_piled tj_piled (lw_all_tbl q2539) dX11_readProgram_32 (r32 rfl) ty_int ?_
  refine s_aload_n o dX11_readProgram_35 rfl 0 rfl ?_
  refine s_iconst o dX11_readProgram_36 ?_
  refine r_tpf vI rfl o hT tf_operands tj_operands (lw_all_tbl q2544) dX11_readProgram_37 (r32 rfl) ty_int ?_
  refine s_aload_n o dX11_readProgram_40 rfl 0 rfl ?_
  refine s_iconst o dX11_readProgram_41 ?_
  refine r_tpf vI rfl o hT tf_at tj_at (lw_all_tbl q2509) dX11_readProgram_42 (r32 rfl) ty_int ?_
  refine s_aload_n o dX11_readProgram_45 rfl 0 rfl ?_
  refine s_iconst o dX11_readProgram_46 ?_
  refine r_tpf vI rfl o hT tf_constructors tj_constructors (lw_all_tbl q2535) dX11_readProgram_47 (r32 rfl) ty_int ?_
  refine s_aload_n o dX11_readProgram_50 rfl 0 rfl ?_
  refine s_tga (x := 38) o hT tf_constructorNames ta_constructorNames (lw_all_tbl q2536) dX11_readProgram_51 ?_
  refine s_iconst o dX11_readProgram_54 ?_
  refine s_bipush o dX11_readProgram_55 rfl ?_
  refine s_bipush o dX11_readProgram_57 rfl ?_
  refine s_bipush o dX11_readProgram_59 rfl ?_
  refine s_bipush o dX11_readProgram_61 rfl ?_
  refine s_bipush o dX11_readProgram_63 rfl ?_
  refine s_cs (d := d + 10) (As := [vI 70, vI 97, vI 108, vI 115, vI 101]) (st := [vI 0, vA (mg Γ) 38]) o (st_pack (mg Γ) (d + 10) h 70 97 108 115 101 (r32 rfl) (r32 rfl) (r32 rfl) (r32 rfl) (r32 rfl)) mw_X11_pack rfl (Or.inl (lw_all_tbl q2929)) (lw_all_tbl q2930) (wt_I (wt_A wt_0)) rfl dX11_readProgram_65 rfl (rs := fun r => [vJ r, vI 0, vA (mg Γ) 38]) (fun _ => rfl) (fun v1 hv1 => ?_)
  refine r_tlast o hT tr_constructorNames (r32 rfl) (hv1 _ rfl) dX11_readProgram_68 ?_
  refine s_aload_n o dX11_readProgram_69 rfl 0 rfl ?_
  refine s_tga (x := 38) o hT tf_constructorNames ta_constructorNames (lw_all_tbl q2536) dX11_readProgram_70 ?_
  refine s_iconst o dX11_readProgram_73 ?_
  refine s_bipush o dX11_readProgram_74 rfl ?_
  refine s_bipush o dX11_readProgram_76 rfl ?_
  refine s_bipush o dX11_readProgram_78 rfl ?_
  refine s_bipush o dX11_readProgram_80 rfl ?_
  refine s_iconst o dX11_readProgram_82 ?_
  refine s_cs (d := d + 10) (As := [vI 84, vI 114, vI 117, vI 101, vI 0]) (st := [vI 1, vA (mg Γ) 38]) o (st_pack (mg Γ) (d + 10) h 84 114 117 101 0 (r32 rfl) (r32 rfl) (r32 rfl) (r32 rfl) (r32 rfl)) mw_X11_pack rfl (Or.inl (lw_all_tbl q2929)) (lw_all_tbl q2930) (wt_I (wt_A wt_0)) rfl dX11_readProgram_83 rfl (rs := fun r => [vJ r, vI 1, vA (mg Γ) 38]) (fun _ => rfl) (fun v2 hv2 => ?_)
  refine r_tlast o hT tr_constructorNames (r32 rfl) (hv2 _ rfl) dX11_readProgram_86 ?_
  refine s_aload_n o dX11_readProgram_87 rfl 0 rfl ?_
  refine s_tga (x := 39) o hT tf_fieldCounts ta_fieldCounts (lw_all_tbl q2537) dX11_readProgram_88 ?_
  refine s_iconst o dX11_readProgram_91 ?_
  refine s_iconst o dX11_readProgram_92 ?_
  refine r_tiast o hT tr_fieldCounts (r32 rfl) (r32 rfl) dX11_readProgram_93 ?_
  refine s_aload_n o dX11_readProgram_94 rfl 0 rfl ?_
  refine s_tga (x := 39) o hT tf_fieldCounts ta_fieldCounts (lw_all_tbl q2537) dX11_readProgram_95 ?_
  refine s_iconst o dX11_readProgram_98 ?_
  refine s_iconst o dX11_readProgram_99 ?_
  refine r_tiast o hT tr_fieldCounts (r32 rfl) (r32 rfl) dX11_readProgram_100 ?_
  refine s_aload_n o dX11_readProgram_101 rfl 0 rfl ?_
  refine s_cv (d := d + 10) (C := "LazyForgeModel") (As := []) (st := []) o (st_next (mg Γ) (d + 7) h hT) mw_X11_next rfl (Or.inl (lw_all_tbl q2932)) (lw_all_tbl qs57) (lw_all_tbl q2934) (fun t => rc_t o hT t) wt_0 rfl dX11_readProgram_102 rfl (rs := fun _ => []) (fun _ => rfl) (fun _ _ => ?_)
  refine st_readProgram_105 hT o _ ?_
  · refine s_aload_n o dX11_readProgram_132 rfl 0 rfl ?_
    refine r_tgf vI rfl o hT tf_fault tj_fault (lw_all_tbl q2514) dX11_readProgram_133 (fun v3 hv3 => ?_)
    refine s_if_ne (tgt := 143) o dX11_readProgram_136 (by decide) hv3 ?_ ?_
    · refine s_iconst o dX11_readProgram_143 ?_
      exact st_readProgram_144 hT o 0 (Or.inl rfl)
    · refine s_iconst o dX11_readProgram_139 ?_
      refine s_goto (tgt := 144) o dX11_readProgram_140 (by decide) ?_
      exact st_readProgram_144 hT o 1 (Or.inr rfl)
theorem dX11_program_0 : decode cX11_program 0 = .ok (.aload_n 0, 1) := by decide +kernel
theorem dX11_program_1 : decode cX11_program 1 = .ok (.aload_n 0, 1) := by decide +kernel
theorem dX11_program_2 : decode cX11_program 2 = .ok (.getfield 336, 3) := by decide +kernel
theorem dX11_program_5 : decode cX11_program 5 = .ok (.sipush 20000, 3) := by decide +kernel
theorem dX11_program_8 : decode cX11_program 8 = .ok (.if_icmp .lt 7, 3) := by decide +kernel
theorem dX11_program_11 : decode cX11_program 11 = .ok (.iconst 1, 1) := by decide +kernel
theorem dX11_program_12 : decode cX11_program 12 = .ok (.goto 4, 3) := by decide +kernel
theorem dX11_program_15 : decode cX11_program 15 = .ok (.iconst 0, 1) := by decide +kernel
theorem dX11_program_16 : decode cX11_program 16 = .ok (.putfield 251, 3) := by decide +kernel
theorem dX11_program_19 : decode cX11_program 19 = .ok (.aload_n 0, 1) := by decide +kernel
theorem dX11_program_20 : decode cX11_program 20 = .ok (.getfield 251, 3) := by decide +kernel
theorem dX11_program_23 : decode cX11_program 23 = .ok (.ifCond .le 5, 3) := by decide +kernel
theorem dX11_program_26 : decode cX11_program 26 = .ok (.iconst 0, 1) := by decide +kernel
theorem dX11_program_27 : decode cX11_program 27 = .ok (.ireturn, 1) := by decide +kernel
theorem dX11_program_28 : decode cX11_program 28 = .ok (.aload_n 0, 1) := by decide +kernel
theorem dX11_program_29 : decode cX11_program 29 = .ok (.iconst 0, 1) := by decide +kernel
theorem dX11_program_30 : decode cX11_program 30 = .ok (.putfield 570, 3) := by decide +kernel
theorem dX11_program_33 : decode cX11_program 33 = .ok (.aload_n 0, 1) := by decide +kernel
theorem dX11_program_34 : decode cX11_program 34 = .ok (.invokevirtual 573, 3) := by decide +kernel
theorem dX11_program_37 : decode cX11_program 37 = .ok (.aload_n 0, 1) := by decide +kernel
theorem dX11_program_38 : decode cX11_program 38 = .ok (.invokevirtual 576, 3) := by decide +kernel
theorem dX11_program_41 : decode cX11_program 41 = .ok (.aload_n 0, 1) := by decide +kernel
theorem dX11_program_42 : decode cX11_program 42 = .ok (.iconst 0, 1) := by decide +kernel
theorem dX11_program_43 : decode cX11_program 43 = .ok (.putfield 254, 3) := by decide +kernel
theorem dX11_program_46 : decode cX11_program 46 = .ok (.aload_n 0, 1) := by decide +kernel
theorem dX11_program_47 : decode cX11_program 47 = .ok (.getfield 311, 3) := by decide +kernel
theorem dX11_program_50 : decode cX11_program 50 = .ok (.ifCond .ne 11, 3) := by decide +kernel
theorem dX11_program_53 : decode cX11_program 53 = .ok (.aload_n 0, 1) := by decide +kernel
theorem dX11_program_54 : decode cX11_program 54 = .ok (.invokevirtual 579, 3) := by decide +kernel
theorem dX11_program_57 : decode cX11_program 57 = .ok (.aload_n 0, 1) := by decide +kernel
theorem dX11_program_58 : decode cX11_program 58 = .ok (.invokevirtual 582, 3) := by decide +kernel
theorem dX11_program_61 : decode cX11_program 61 = .ok (.aload_n 0, 1) := by decide +kernel
theorem dX11_program_62 : decode cX11_program 62 = .ok (.getfield 311, 3) := by decide +kernel
theorem dX11_program_65 : decode cX11_program 65 = .ok (.ifCond .ne 7, 3) := by decide +kernel
theorem dX11_program_68 : decode cX11_program 68 = .ok (.aload_n 0, 1) := by decide +kernel
theorem dX11_program_69 : decode cX11_program 69 = .ok (.invokevirtual 585, 3) := by decide +kernel
theorem dX11_program_72 : decode cX11_program 72 = .ok (.aload_n 0, 1) := by decide +kernel
theorem dX11_program_73 : decode cX11_program 73 = .ok (.getfield 311, 3) := by decide +kernel
theorem dX11_program_76 : decode cX11_program 76 = .ok (.ifCond .ne 7, 3) := by decide +kernel
theorem dX11_program_79 : decode cX11_program 79 = .ok (.aload_n 0, 1) := by decide +kernel
theorem dX11_program_80 : decode cX11_program 80 = .ok (.invokevirtual 588, 3) := by decide +kernel
theorem dX11_program_83 : decode cX11_program 83 = .ok (.aload_n 0, 1) := by decide +kernel
theorem dX11_program_84 : decode cX11_program 84 = .ok (.aload_n 0, 1) := by decide +kernel
theorem dX11_program_85 : decode cX11_program 85 = .ok (.getfield 311, 3) := by decide +kernel
theorem dX11_program_88 : decode cX11_program 88 = .ok (.putfield 591, 3) := by decide +kernel
theorem dX11_program_91 : decode cX11_program 91 = .ok (.aload_n 0, 1) := by decide +kernel
theorem dX11_program_92 : decode cX11_program 92 = .ok (.aload_n 0, 1) := by decide +kernel
theorem dX11_program_93 : decode cX11_program 93 = .ok (.getfield 311, 3) := by decide +kernel
theorem dX11_program_96 : decode cX11_program 96 = .ok (.ifCond .le 10, 3) := by decide +kernel
theorem dX11_program_99 : decode cX11_program 99 = .ok (.aload_n 0, 1) := by decide +kernel
theorem dX11_program_100 : decode cX11_program 100 = .ok (.getfield 314, 3) := by decide +kernel
theorem dX11_program_103 : decode cX11_program 103 = .ok (.goto 4, 3) := by decide +kernel
theorem dX11_program_106 : decode cX11_program 106 = .ok (.iconst (-1), 1) := by decide +kernel
theorem dX11_program_107 : decode cX11_program 107 = .ok (.putfield 187, 3) := by decide +kernel
theorem dX11_program_110 : decode cX11_program 110 = .ok (.aload_n 0, 1) := by decide +kernel
theorem dX11_program_111 : decode cX11_program 111 = .ok (.getfield 311, 3) := by decide +kernel
theorem dX11_program_114 : decode cX11_program 114 = .ok (.ifCond .le 5, 3) := by decide +kernel
theorem dX11_program_117 : decode cX11_program 117 = .ok (.iconst (-1), 1) := by decide +kernel
theorem dX11_program_118 : decode cX11_program 118 = .ok (.ireturn, 1) := by decide +kernel
theorem dX11_program_119 : decode cX11_program 119 = .ok (.aload_n 0, 1) := by decide +kernel
theorem dX11_program_120 : decode cX11_program 120 = .ok (.invokevirtual 594, 3) := by decide +kernel
theorem dX11_program_123 : decode cX11_program 123 = .ok (.aload_n 0, 1) := by decide +kernel
theorem dX11_program_124 : decode cX11_program 124 = .ok (.invokevirtual 597, 3) := by decide +kernel
theorem dX11_program_127 : decode cX11_program 127 = .ok (.iconst 0, 1) := by decide +kernel
theorem dX11_program_128 : decode cX11_program 128 = .ok (.istore_n 1, 1) := by decide +kernel
theorem dX11_program_129 : decode cX11_program 129 = .ok (.iload_n 1, 1) := by decide +kernel
theorem dX11_program_130 : decode cX11_program 130 = .ok (.aload_n 0, 1) := by decide +kernel
theorem dX11_program_131 : decode cX11_program 131 = .ok (.getfield 486, 3) := by decide +kernel
theorem dX11_program_134 : decode cX11_program 134 = .ok (.if_icmp .ge 44, 3) := by decide +kernel
theorem dX11_program_137 : decode cX11_program 137 = .ok (.iconst 0, 1) := by decide +kernel
theorem dX11_program_138 : decode cX11_program 138 = .ok (.istore_n 2, 1) := by decide +kernel
theorem dX11_program_139 : decode cX11_program 139 = .ok (.iload_n 2, 1) := by decide +kernel
theorem dX11_program_140 : decode cX11_program 140 = .ok (.aload_n 0, 1) := by decide +kernel
theorem dX11_program_141 : decode cX11_program 141 = .ok (.getfield 171, 3) := by decide +kernel
theorem dX11_program_144 : decode cX11_program 144 = .ok (.iload_n 1, 1) := by decide +kernel
theorem dX11_program_145 : decode cX11_program 145 = .ok (.iaload, 1) := by decide +kernel
theorem dX11_program_146 : decode cX11_program 146 = .ok (.if_icmp .ge 26, 3) := by decide +kernel
theorem dX11_program_149 : decode cX11_program 149 = .ok (.aload_n 0, 1) := by decide +kernel
theorem dX11_program_150 : decode cX11_program 150 = .ok (.getfield 191, 3) := by decide +kernel
theorem dX11_program_153 : decode cX11_program 153 = .ok (.bipush 8, 2) := by decide +kernel
theorem dX11_program_155 : decode cX11_program 155 = .ok (.iload_n 1, 1) := by decide +kernel
theorem dX11_program_156 : decode cX11_program 156 = .ok (.imul, 1) := by decide +kernel
theorem dX11_program_157 : decode cX11_program 157 = .ok (.iload_n 2, 1) := by decide +kernel
theorem dX11_program_158 : decode cX11_program 158 = .ok (.iadd, 1) := by decide +kernel
theorem dX11_program_159 : decode cX11_program 159 = .ok (.aload_n 0, 1) := by decide +kernel
theorem dX11_program_160 : decode cX11_program 160 = .ok (.iload_n 1, 1) := by decide +kernel
theorem dX11_program_161 : decode cX11_program 161 = .ok (.iload_n 2, 1) := by decide +kernel
theorem dX11_program_162 : decode cX11_program 162 = .ok (.invokevirtual 600, 3) := by decide +kernel
theorem dX11_program_165 : decode cX11_program 165 = .ok (.bastore, 1) := by decide +kernel
theorem dX11_program_166 : decode cX11_program 166 = .ok (.iinc 2 1, 3) := by decide +kernel
theorem dX11_program_169 : decode cX11_program 169 = .ok (.goto (-30), 3) := by decide +kernel
theorem dX11_program_172 : decode cX11_program 172 = .ok (.iinc 1 1, 3) := by decide +kernel
theorem dX11_program_175 : decode cX11_program 175 = .ok (.goto (-46), 3) := by decide +kernel
theorem dX11_program_178 : decode cX11_program 178 = .ok (.aload_n 0, 1) := by decide +kernel
theorem dX11_program_179 : decode cX11_program 179 = .ok (.iconst 1, 1) := by decide +kernel
theorem dX11_program_180 : decode cX11_program 180 = .ok (.putfield 570, 3) := by decide +kernel
theorem dX11_program_183 : decode cX11_program 183 = .ok (.aload_n 0, 1) := by decide +kernel
theorem dX11_program_184 : decode cX11_program 184 = .ok (.getfield 486, 3) := by decide +kernel
theorem dX11_program_187 : decode cX11_program 187 = .ok (.ireturn, 1) := by decide +kernel
theorem mw_X11_program : MW yX11_program (Cond.code yX11_program cX11_program 3 (Option.some Jvm.ClassFile.FieldType.int)) cX11_program 3 (Option.some Jvm.ClassFile.FieldType.int) 0 := ⟨rfl, ⟨(lw_all_tbl q2920), rfl, (lw_all_tbl q173)⟩, rfl, ⟨by decide, by decide⟩, by decide +kernel⟩
abbrev okt_program_139 (x : Int × Int) : Prop := R32 x.1 ∧ R32 x.2
abbrev lvt_program_139 (Γ : Gm) (x : Int × Int) : List (Nat × Value) := [(0, vA (mg Γ) 21), (1, vI x.1), (2, vI x.2)]
noncomputable def t_program_139b {A : Type} (k_172 : Int → Mo TS A) (l1 : Int) (l2 : Int) : Mo TS ((Int × Int) ⊕ A) :=
  bnd (rd 82 640 l1) fun v1 =>
  if v1 ≤ l2 then
    lo (k_172 l1)
  else
    bnd (t_isNeeded l1 l2) fun v2 =>
    bnd (wr 91 5120 (w32 ((w32 (8 * l1)) + l2)) v2) fun _ =>
    pr (.inl (l1, (w32 (l2 + 1))))
theorem st_program_139b {Γ : Gm} {h : CH} {d : Nat} (hT : HT h) (o : Ok Γ "LazyForgeModel" cX11_program 3 (Option.some Jvm.ClassFile.FieldType.int) (d + 12)) {A : Type} {K : A → TS → Prop} (k_172 : Int → Mo TS A) (hk_172 : ∀ (l1 : Int), R32 l1 → Sx Γ (fun t => (h, t)) K 172 [(0, vA (mg Γ) 21), (1, vI l1)] [] (k_172 l1)) (l1 : Int) (l2 : Int) (hl1 : R32 l1) (hl2 : R32 l2) : Sx Γ (fun t => (h, t)) (KL Γ (fun t => (h, t)) okt_program_139 K 139 (lvt_program_139 Γ) []) 139 [(0, vA (mg Γ) 21), (1, vI l1), (2, vI l2)] [] (t_program_139b k_172 l1 l2) := by
  unfold t_program_139b
  refine s_iload_n o dX11_program_139 rfl 2 rfl ?_
  refine s_aload_n o dX11_program_140 rfl 0 rfl ?_
  refine s_tga (x := 75) o hT tf_parameterCounts ta_parameterCounts (lw_all_tbl q2586) dX11_program_141 ?_
  refine s_iload_n o dX11_program_144 rfl 1 rfl ?_
  refine r_tiald o hT tr_parameterCounts hl1 dX11_program_145 (fun v1 hv1 => ?_)
  refine s_icmp_ge (tgt := 172) o dX11_program_146 (by decide) hl2 hv1 ?_ ?_
  · refine r_to [(0, vA (mg Γ) 21), (1, vI l1)] [0, 1] rfl ?_
    exact s_lo (hk_172 l1 hl1)
  · refine s_aload_n o dX11_program_149 rfl 0 rfl ?_
    refine s_tga (x := 80) o hT tf_needed ta_needed (lw_all_tbl q2595) dX11_program_150 ?_
    refine s_bipush o dX11_program_153 rfl ?_
    refine s_iload_n o dX11_program_155 rfl 1 rfl ?_
    refine s_imul o dX11_program_156 ?_
    refine s_iload_n o dX11_program_157 rfl 2 rfl ?_
    refine s_iadd o dX11_program_158 ?_
    refine s_aload_n o dX11_program_159 rfl 0 rfl ?_
    refine s_iload_n o dX11_program_160 rfl 1 rfl ?_
    refine s_iload_n o dX11_program_161 rfl 2 rfl ?_
    refine s_cv (d := d + 11) (C := "LazyForgeModel") (As := [vI l1, vI l2]) (st := [vI (w32 ((w32 (8 * l1)) + l2)), vA (mg Γ) 80]) o (st_isNeeded (mg Γ) (d + 10) h hT l1 l2 hl1 hl2) mw_X11_isNeeded rfl (Or.inl (lw_all_tbl q3225)) (lw_all_tbl qs124) (lw_all_tbl q3227) (fun t => rc_t o hT t) (wt_I (wt_A wt_0)) rfl dX11_program_162 rfl (rs := fun r => [vI r, vI (w32 ((w32 (8 * l1)) + l2)), vA (mg Γ) 80]) (fun _ => rfl) (fun v2 hv2 => ?_)
    refine r_tzast o hT tr_needed (w32_R _) (hv2 _ rfl) dX11_program_165 ?_
    refine r_iinc (j := 2) o dX11_program_166 rfl rfl [(0, vA (mg Γ) 21), (1, vI l1)] [0, 1] rfl ⟨(Nat.ne_of_beq_eq_false rfl), (fun _ => (vA_cat (mg Γ) 21)), ⟨(Nat.ne_of_beq_eq_false rfl), (fun _ => rfl), trivial⟩⟩ ?_
    refine s_goto (tgt := 139) o dX11_program_169 (by decide) ?_
    refine r_to [(0, vA (mg Γ) 21), (1, vI l1), (2, vI (w32 (l2 + 1)))] [1, 2, 0] rfl ?_
    exact s_back (⟨hl1, (w32_R _)⟩) rfl
noncomputable def t_program_139 {A : Type} (k_172 : Int → Mo TS A) (l1 : Int) (l2 : Int) : Mo TS A := Loop (fun x => t_program_139b k_172 x.1 x.2) (l1, l2)
theorem st_program_139 {Γ : Gm} {h : CH} {d : Nat} (hT : HT h) (o : Ok Γ "LazyForgeModel" cX11_program 3 (Option.some Jvm.ClassFile.FieldType.int) (d + 12)) {A : Type} {K : A → TS → Prop} (k_172 : Int → Mo TS A) (hk_172 : ∀ (l1 : Int), R32 l1 → Sx Γ (fun t => (h, t)) K 172 [(0, vA (mg Γ) 21), (1, vI l1)] [] (k_172 l1)) (l1 : Int) (l2 : Int) (hl1 : R32 l1) (hl2 : R32 l2) : Sx Γ (fun t => (h, t)) K 139 [(0, vA (mg Γ) 21), (1, vI l1), (2, vI l2)] [] (t_program_139 k_172 l1 l2) :=
  s_loop okt_program_139 (lvt_program_139 Γ) (fun x hx => st_program_139b hT o k_172 hk_172 x.1 x.2 hx.1 hx.2) (x := (l1, l2)) ⟨hl1, hl2⟩
abbrev okt_program_129 (x : Int) : Prop := R32 x
abbrev lvt_program_129 (Γ : Gm) (x : Int) : List (Nat × Value) := [(0, vA (mg Γ) 21), (1, vI x)]
noncomputable def t_program_129b {A : Type} (k_178 : Mo TS A) (l1 : Int) : Mo TS ((Int) ⊕ A) :=
  bnd (gs 46) fun v1 =>
  if v1 ≤ l1 then
    lo k_178
  else
    t_program_139
      (fun v2 => pr (.inl (w32 (v2 + 1)))) l1 0
theorem st_program_129b {Γ : Gm} {h : CH} {d : Nat} (hT : HT h) (o : Ok Γ "LazyForgeModel" cX11_program 3 (Option.some Jvm.ClassFile.FieldType.int) (d + 12)) {A : Type} {K : A → TS → Prop} (k_178 : Mo TS A) (hk_178 : Sx Γ (fun t => (h, t)) K 178 [(0, vA (mg Γ) 21)] [] (k_178)) (l1 : Int) (hl1 : R32 l1) : Sx Γ (fun t => (h, t)) (KL Γ (fun t => (h, t)) okt_program_129 K 129 (lvt_program_129 Γ) []) 129 [(0, vA (mg Γ) 21), (1, vI l1)] [] (t_program_129b k_178 l1) := by
  unfold t_program_129b
  refine s_iload_n o dX11_program_129 rfl 1 rfl ?_
  refine s_aload_n o dX11_program_130 rfl 0 rfl ?_
  refine r_tgf vI rfl o hT tf_named tj_named (lw_all_tbl q2550) dX11_program_131 (fun v1 hv1 => ?_)
  refine s_icmp_ge (tgt := 178) o dX11_program_134 (by decide) hl1 hv1 ?_ ?_
  · refine r_to [(0, vA (mg Γ) 21)] [0] rfl ?_
    exact s_lo hk_178
  · refine s_iconst o dX11_program_137 ?_
    refine r_istore_n o dX11_program_138 rfl rfl ⟨(Nat.ne_of_beq_eq_false rfl), (fun _ => (vA_cat (mg Γ) 21)), ⟨(Nat.ne_of_beq_eq_false rfl), (fun _ => rfl), trivial⟩⟩ ?_
    refine r_to [(0, vA (mg Γ) 21), (1, vI l1), (2, vI 0)] [1, 2, 0] rfl ?_
    refine st_program_139 hT o _ ?_ l1 0 hl1 (r32 rfl)
    · intro v2 hv2
      refine r_iinc (j := 1) o dX11_program_172 rfl rfl [(0, vA (mg Γ) 21)] [0] rfl ⟨(Nat.ne_of_beq_eq_false rfl), (fun _ => (vA_cat (mg Γ) 21)), trivial⟩ ?_
      refine s_goto (tgt := 129) o dX11_program_175 (by decide) ?_
      refine r_to [(0, vA (mg Γ) 21), (1, vI (w32 (v2 + 1)))] [1, 0] rfl ?_
      exact s_back (w32_R _) rfl
noncomputable def t_program_129 {A : Type} (k_178 : Mo TS A) (l1 : Int) : Mo TS A := Loop (fun x => t_program_129b k_178 x) l1
theorem st_program_129 {Γ : Gm} {h : CH} {d : Nat} (hT : HT h) (o : Ok Γ "LazyForgeModel" cX11_program 3 (Option.some Jvm.ClassFile.FieldType.int) (d + 12)) {A : Type} {K : A → TS → Prop} (k_178 : Mo TS A) (hk_178 : Sx Γ (fun t => (h, t)) K 178 [(0, vA (mg Γ) 21)] [] (k_178)) (l1 : Int) (hl1 : R32 l1) : Sx Γ (fun t => (h, t)) K 129 [(0, vA (mg Γ) 21), (1, vI l1)] [] (t_program_129 k_178 l1) :=
  s_loop okt_program_129 (lvt_program_129 Γ) (fun x hx => st_program_129b hT o k_178 hk_178 x hx) (x := l1) hl1
noncomputable def t_program_107  (k0 : Int) : Mo TS Int :=
  bnd (ss 90 k0) fun _ =>
  bnd (gs 10) fun v1 =>
  if v1 ≤ 0 then
    bnd (t_findTables) fun _ =>
    bnd (t_findNeeds) fun _ =>
    t_program_129
      (bnd (ss 88 1) fun _ =>
    bnd (gs 46) fun v2 =>
    pr v2) 0
  else
    pr (-1)
theorem st_program_107 {Γ : Gm} {h : CH} {d : Nat} (hT : HT h) (o : Ok Γ "LazyForgeModel" cX11_program 3 (Option.some Jvm.ClassFile.FieldType.int) (d + 12))   (k0 : Int) (hk0 : R32 k0) : Sx Γ (fun t => (h, t)) (fun a s => mt Γ = (0, a, ((h, s) : Wd))) 107 [(0, vA (mg Γ) 21)] [vI k0, vA (mg Γ) 21] (t_program_107 k0) := by
  unfold t_program_107
  refine r_tpf vI rfl o hT tf_lastPlace tj_lastPlace (lw_all_tbl q2594) dX11_program_107 hk0 ty_int ?_
  refine s_aload_n o dX11_program_110 rfl 0 rfl ?_
  refine r_tgf vI rfl o hT tf_fault tj_fault (lw_all_tbl q2514) dX11_program_111 (fun v1 hv1 => ?_)
  refine s_if_le (tgt := 119) o dX11_program_114 (by decide) hv1 ?_ ?_
  · refine s_aload_n o dX11_program_119 rfl 0 rfl ?_
    refine s_cv (d := d + 11) (C := "LazyForgeModel") (As := []) (st := []) o (st_findTables (mg Γ) (d + 7) h hT) mw_X11_findTables rfl (Or.inl (lw_all_tbl q3197)) (lw_all_tbl qs117) (lw_all_tbl q3199) (fun t => rc_t o hT t) wt_0 rfl dX11_program_120 rfl (rs := fun _ => []) (fun _ => rfl) (fun _ _ => ?_)
    refine s_aload_n o dX11_program_123 rfl 0 rfl ?_
    refine s_cv (d := d + 11) (C := "LazyForgeModel") (As := []) (st := []) o (st_findNeeds (mg Γ) (d + 7) h hT) mw_X11_findNeeds rfl (Or.inl (lw_all_tbl q3217)) (lw_all_tbl qs122) (lw_all_tbl q3219) (fun t => rc_t o hT t) wt_0 rfl dX11_program_124 rfl (rs := fun _ => []) (fun _ => rfl) (fun _ _ => ?_)
    refine s_iconst o dX11_program_127 ?_
    refine r_istore_n o dX11_program_128 rfl rfl ⟨(Nat.ne_of_beq_eq_false rfl), (fun _ => (vA_cat (mg Γ) 21)), trivial⟩ ?_
    refine r_to [(0, vA (mg Γ) 21), (1, vI 0)] [1, 0] rfl ?_
    refine st_program_129 hT o _ ?_ 0 (r32 rfl)
    · refine s_aload_n o dX11_program_178 rfl 0 rfl ?_
      refine s_iconst o dX11_program_179 ?_
      refine r_tpf vI rfl o hT tf_hasProgram tj_hasProgram (lw_all_tbl q2592) dX11_program_180 (Or.inr rfl) ty_boolean ?_
      refine s_aload_n o dX11_program_183 rfl 0 rfl ?_
      refine r_tgf vI rfl o hT tf_named tj_named (lw_all_tbl q2550) dX11_program_184 (fun v2 hv2 => ?_)
      exact s_iret o rfl i_int hv2 dX11_program_187 (fun _ hh => hh)
  · refine s_iconst o dX11_program_117 ?_
    exact s_iret o rfl i_int (r32 rfl) dX11_program_118 (fun _ hh => hh)
noncomputable def t_program_83  : Mo TS Int :=
  bnd (gs 10) fun v1 =>
  bnd (ss 89 v1) fun _ =>
  bnd (gs 10) fun v2 =>
  if v2 ≤ 0 then
    t_program_107 (-1)
  else
    bnd (gs 11) fun v3 =>
    t_program_107 v3
theorem st_program_83 {Γ : Gm} {h : CH} {d : Nat} (hT : HT h) (o : Ok Γ "LazyForgeModel" cX11_program 3 (Option.some Jvm.ClassFile.FieldType.int) (d + 12))   : Sx Γ (fun t => (h, t)) (fun a s => mt Γ = (0, a, ((h, s) : Wd))) 83 [(0, vA (mg Γ) 21)] [] (t_program_83) := by
  unfold t_program_83
  refine s_aload_n o dX11_program_83 rfl 0 rfl ?_
  refine s_aload_n o dX11_program_84 rfl 0 rfl ?_
  refine r_tgf vI rfl o hT tf_fault tj_fault (lw_all_tbl q2514) dX11_program_85 (fun v1 hv1 => ?_)
  refine r_tpf vI rfl o hT tf_lastFault tj_lastFault (lw_all_tbl q2593) dX11_program_88 hv1 ty_int ?_
  refine s_aload_n o dX11_program_91 rfl 0 rfl ?_
  refine s_aload_n o dX11_program_92 rfl 0 rfl ?_
  refine r_tgf vI rfl o hT tf_fault tj_fault (lw_all_tbl q2514) dX11_program_93 (fun v2 hv2 => ?_)
  refine s_if_le (tgt := 106) o dX11_program_96 (by decide) hv2 ?_ ?_
  · refine s_iconst o dX11_program_106 ?_
    exact st_program_107 hT o (-1) (r32 rfl)
  · refine s_aload_n o dX11_program_99 rfl 0 rfl ?_
    refine r_tgf vI rfl o hT tf_faultPlace tj_faultPlace (lw_all_tbl q2515) dX11_program_100 (fun v3 hv3 => ?_)
    refine s_goto (tgt := 107) o dX11_program_103 (by decide) ?_
    exact st_program_107 hT o v3 hv3
noncomputable def t_program_72  : Mo TS Int :=
  bnd (gs 10) fun v1 =>
  if ¬ v1 = 0 then
    t_program_83
  else
    bnd (t_liftAll) fun _ =>
    t_program_83
theorem st_program_72 {Γ : Gm} {h : CH} {d : Nat} (hT : HT h) (o : Ok Γ "LazyForgeModel" cX11_program 3 (Option.some Jvm.ClassFile.FieldType.int) (d + 12))   : Sx Γ (fun t => (h, t)) (fun a s => mt Γ = (0, a, ((h, s) : Wd))) 72 [(0, vA (mg Γ) 21)] [] (t_program_72) := by
  unfold t_program_72
  refine s_aload_n o dX11_program_72 rfl 0 rfl ?_
  refine r_tgf vI rfl o hT tf_fault tj_fault (lw_all_tbl q2514) dX11_program_73 (fun v1 hv1 => ?_)
  refine s_if_ne (tgt := 83) o dX11_program_76 (by decide) hv1 ?_ ?_
  · exact st_program_83 hT o
  · refine s_aload_n o dX11_program_79 rfl 0 rfl ?_
    refine s_cv (d := d + 11) (C := "LazyForgeModel") (As := []) (st := []) o (st_liftAll (mg Γ) (d + 9) h hT) mw_X11_liftAll rfl (Or.inl (lw_all_tbl q3165)) (lw_all_tbl qs110) (lw_all_tbl q3167) (fun t => rc_t o hT t) wt_0 rfl dX11_program_80 rfl (rs := fun _ => []) (fun _ => rfl) (fun _ _ => ?_)
    exact st_program_83 hT o
noncomputable def t_program_61  : Mo TS Int :=
  bnd (gs 10) fun v1 =>
  if ¬ v1 = 0 then
    t_program_72
  else
    bnd (t_judge) fun _ =>
    t_program_72
theorem st_program_61 {Γ : Gm} {h : CH} {d : Nat} (hT : HT h) (o : Ok Γ "LazyForgeModel" cX11_program 3 (Option.some Jvm.ClassFile.FieldType.int) (d + 12))   : Sx Γ (fun t => (h, t)) (fun a s => mt Γ = (0, a, ((h, s) : Wd))) 61 [(0, vA (mg Γ) 21)] [] (t_program_61) := by
  unfold t_program_61
  refine s_aload_n o dX11_program_61 rfl 0 rfl ?_
  refine r_tgf vI rfl o hT tf_fault tj_fault (lw_all_tbl q2514) dX11_program_62 (fun v1 hv1 => ?_)
  refine s_if_ne (tgt := 72) o dX11_program_65 (by decide) hv1 ?_ ?_
  · exact st_program_72 hT o
  · refine s_aload_n o dX11_program_68 rfl 0 rfl ?_
    refine s_cv (d := d + 11) (C := "LazyForgeModel") (As := []) (st := []) o (st_judge (mg Γ) (d + 9) h hT) mw_X11_judge rfl (Or.inl (lw_all_tbl q3157)) (lw_all_tbl qs108) (lw_all_tbl q3159) (fun t => rc_t o hT t) wt_0 rfl dX11_program_69 rfl (rs := fun _ => []) (fun _ => rfl) (fun _ _ => ?_)
    exact st_program_72 hT o
noncomputable def t_program_16  (k0 : Int) : Mo TS Int :=
  bnd (ss 0 k0) fun _ =>
  bnd (gs 0) fun v1 =>
  if v1 ≤ 0 then
    bnd (ss 88 0) fun _ =>
    bnd (t_clearRun) fun _ =>
    bnd (t_readProgram) fun _ =>
    bnd (ss 2 0) fun _ =>
    bnd (gs 10) fun v2 =>
    if ¬ v2 = 0 then
      t_program_61
    else
      bnd (t_numberAll) fun _ =>
      bnd (t_find) fun _ =>
      t_program_61
  else
    pr 0
theorem st_program_16 {Γ : Gm} {h : CH} {d : Nat} (hT : HT h) (o : Ok Γ "LazyForgeModel" cX11_program 3 (Option.some Jvm.ClassFile.FieldType.int) (d + 12))   (k0 : Int) (hk0 : rg .boolean k0) : Sx Γ (fun t => (h, t)) (fun a s => mt Γ = (0, a, ((h, s) : Wd))) 16 [(0, vA (mg Γ) 21)] [vI k0, vA (mg Γ) 21] (t_program_16 k0) := by
  unfold t_program_16
  refine r_tpf vI rfl o hT tf_thrown tj_thrown (lw_all_tbl q2504) dX11_program_16 (rZ hk0) ty_int ?_
  refine s_aload_n o dX11_program_19 rfl 0 rfl ?_
  refine r_tgf vI rfl o hT tf_thrown tj_thrown (lw_all_tbl q2504) dX11_program_20 (fun v1 hv1 => ?_)
  refine s_if_le (tgt := 28) o dX11_program_23 (by decide) hv1 ?_ ?_
  · refine s_aload_n o dX11_program_28 rfl 0 rfl ?_
    refine s_iconst o dX11_program_29 ?_
    refine r_tpf vI rfl o hT tf_hasProgram tj_hasProgram (lw_all_tbl q2592) dX11_program_30 (Or.inl rfl) ty_boolean ?_
    refine s_aload_n o dX11_program_33 rfl 0 rfl ?_
    refine s_cv (d := d + 11) (C := "LazyForgeModel") (As := []) (st := []) o (st_clearRun (mg Γ) (d + 11) h hT) mw_X11_clearRun rfl (Or.inl (lw_all_tbl q2921)) (lw_all_tbl qs55) (lw_all_tbl q2923) (fun t => rc_t o hT t) wt_0 rfl dX11_program_34 rfl (rs := fun _ => []) (fun _ => rfl) (fun _ _ => ?_)
    refine s_aload_n o dX11_program_37 rfl 0 rfl ?_
    refine s_cv (d := d + 11) (C := "LazyForgeModel") (As := []) (st := []) o (st_readProgram (mg Γ) d h hT) mw_X11_readProgram rfl (Or.inl (lw_all_tbl q2925)) (lw_all_tbl qs56) (lw_all_tbl q2927) (fun t => rc_t o hT t) wt_0 rfl dX11_program_38 rfl (rs := fun _ => []) (fun _ => rfl) (fun _ _ => ?_)
    refine s_aload_n o dX11_program_41 rfl 0 rfl ?_
    refine s_iconst o dX11_program_42 ?_
    refine r_tpf vI rfl o hT tf_size tj_size (lw_all_tbl q2506) dX11_program_43 (r32 rfl) ty_int ?_
    refine s_aload_n o dX11_program_46 rfl 0 rfl ?_
    refine r_tgf vI rfl o hT tf_fault tj_fault (lw_all_tbl q2514) dX11_program_47 (fun v2 hv2 => ?_)
    refine s_if_ne (tgt := 61) o dX11_program_50 (by decide) hv2 ?_ ?_
    · exact st_program_61 hT o
    · refine s_aload_n o dX11_program_53 rfl 0 rfl ?_
      refine s_cv (d := d + 11) (C := "LazyForgeModel") (As := []) (st := []) o (st_numberAll (mg Γ) (d + 11) h hT) mw_X11_numberAll rfl (Or.inl (lw_all_tbl q3110)) (lw_all_tbl qs97) (lw_all_tbl q3112) (fun t => rc_t o hT t) wt_0 rfl dX11_program_54 rfl (rs := fun _ => []) (fun _ => rfl) (fun _ _ => ?_)
      refine s_aload_n o dX11_program_57 rfl 0 rfl ?_
      refine s_cv (d := d + 11) (C := "LazyForgeModel") (As := []) (st := []) o (st_find (mg Γ) (d + 8) h hT) mw_X11_find rfl (Or.inl (lw_all_tbl q3114)) (lw_all_tbl qs98) (lw_all_tbl q3116) (fun t => rc_t o hT t) wt_0 rfl dX11_program_58 rfl (rs := fun _ => []) (fun _ => rfl) (fun _ _ => ?_)
      exact st_program_61 hT o
  · refine s_iconst o dX11_program_26 ?_
    exact s_iret o rfl i_int (r32 rfl) dX11_program_27 (fun _ hh => hh)
noncomputable def t_program : Mo TS Int :=
  bnd (gs 26) fun v1 =>
  if v1 < 20000 then
    t_program_16 0
  else
    t_program_16 1
theorem st_program (g : gC) (d : Nat) (h : CH) (hT : HT h) : SF g yX11_program (Cond.code yX11_program cX11_program 3 (Option.some Jvm.ClassFile.FieldType.int)) (Option.some Jvm.ClassFile.FieldType.int) (d + 12) [vA g 21] (fun t => (h, t)) (t_program) := by
  refine SF.of (lv := [(0, vA g 21)]) (by decide) (wt_A wt_0) rfl (by simp only [la_A, la_I, la_J, la_0]) (fun Γ hg hnm o => ?_)
  subst hg
  have o : Ok Γ "LazyForgeModel" cX11_program 3 (Option.some Jvm.ClassFile.FieldType.int) (d + 12) := o
  unfold t_program
  refine s_aload_n o dX11_program_0 rfl 0 rfl ?_
  refine s_aload_n o dX11_program_1 rfl 0 rfl ?_
  refine r_tgf vI rfl o hT tf_allParts tj_allParts (lw_all_tbl q2530) dX11_program_2 (fun v1 hv1 => ?_)
  refine s_sipush o dX11_program_5 rfl ?_
  refine s_icmp_lt (tgt := 15) o dX11_program_8 (by decide) hv1 (r32 rfl) ?_ ?_
  · refine s_iconst o dX11_program_15 ?_
    exact st_program_16 hT o 0 (Or.inl rfl)
  · refine s_iconst o dX11_program_11 ?_
    refine s_goto (tgt := 16) o dX11_program_12 (by decide) ?_
    exact st_program_16 hT o 1 (Or.inr rfl)
