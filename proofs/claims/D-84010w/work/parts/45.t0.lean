/-! PRINTED: the twin, methods 0 to 48 -/
set_option maxRecDepth 100000
theorem dX11_thrown_0 : decode cX11_thrown 0 = .ok (.aload_n 0, 1) := by decide +kernel
theorem dX11_thrown_1 : decode cX11_thrown 1 = .ok (.getfield 251, 3) := by decide +kernel
theorem dX11_thrown_4 : decode cX11_thrown 4 = .ok (.ireturn, 1) := by decide +kernel
theorem mw_X11_thrown : MW yX11_thrown (Cond.code yX11_thrown cX11_thrown 1 (Option.some Jvm.ClassFile.FieldType.int)) cX11_thrown 1 (Option.some Jvm.ClassFile.FieldType.int) 0 := ⟨rfl, ⟨(lw_all_tbl q2916), rfl, (lw_all_tbl q173)⟩, rfl, ⟨by decide, by decide⟩, by decide +kernel⟩
noncomputable def t_thrown : Mo TS Int :=
  bnd (gs 0) fun v1 =>
  pr v1
theorem st_thrown (g : gC) (d : Nat) (h : CH) (hT : HT h) : SF g yX11_thrown (Cond.code yX11_thrown cX11_thrown 1 (Option.some Jvm.ClassFile.FieldType.int)) (Option.some Jvm.ClassFile.FieldType.int) (d + 0) [vA g 21] (fun t => (h, t)) (t_thrown) := by
  refine SF.of (lv := [(0, vA g 21)]) (by decide) (wt_A wt_0) rfl (by simp only [la_A, la_I, la_J, la_0]) (fun Γ hg hnm o => ?_)
  subst hg
  have o : Ok Γ "LazyForgeModel" cX11_thrown 1 (Option.some Jvm.ClassFile.FieldType.int) (d + 0) := o
  unfold t_thrown
  refine s_aload_n o dX11_thrown_0 rfl 0 rfl ?_
  refine r_tgf vI rfl o hT tf_thrown tj_thrown (lw_all_tbl q2504) dX11_thrown_1 (fun v1 hv1 => ?_)
  exact s_iret o rfl i_int hv1 dX11_thrown_4 (fun _ hh => hh)
theorem dX11_clearRun_0 : decode cX11_clearRun 0 = .ok (.aload_n 0, 1) := by decide +kernel
theorem dX11_clearRun_1 : decode cX11_clearRun 1 = .ok (.iconst 0, 1) := by decide +kernel
theorem dX11_clearRun_2 : decode cX11_clearRun 2 = .ok (.putfield 605, 3) := by decide +kernel
theorem dX11_clearRun_5 : decode cX11_clearRun 5 = .ok (.aload_n 0, 1) := by decide +kernel
theorem dX11_clearRun_6 : decode cX11_clearRun 6 = .ok (.iconst 0, 1) := by decide +kernel
theorem dX11_clearRun_7 : decode cX11_clearRun 7 = .ok (.putfield 608, 3) := by decide +kernel
theorem dX11_clearRun_10 : decode cX11_clearRun 10 = .ok (.aload_n 0, 1) := by decide +kernel
theorem dX11_clearRun_11 : decode cX11_clearRun 11 = .ok (.iconst 0, 1) := by decide +kernel
theorem dX11_clearRun_12 : decode cX11_clearRun 12 = .ok (.putfield 733, 3) := by decide +kernel
theorem dX11_clearRun_15 : decode cX11_clearRun 15 = .ok (.aload_n 0, 1) := by decide +kernel
theorem dX11_clearRun_16 : decode cX11_clearRun 16 = .ok (.iconst 0, 1) := by decide +kernel
theorem dX11_clearRun_17 : decode cX11_clearRun 17 = .ok (.putfield 626, 3) := by decide +kernel
theorem dX11_clearRun_20 : decode cX11_clearRun 20 = .ok (.aload_n 0, 1) := by decide +kernel
theorem dX11_clearRun_21 : decode cX11_clearRun 21 = .ok (.iconst 0, 1) := by decide +kernel
theorem dX11_clearRun_22 : decode cX11_clearRun 22 = .ok (.putfield 641, 3) := by decide +kernel
theorem dX11_clearRun_25 : decode cX11_clearRun 25 = .ok (.aload_n 0, 1) := by decide +kernel
theorem dX11_clearRun_26 : decode cX11_clearRun 26 = .ok (.iconst 0, 1) := by decide +kernel
theorem dX11_clearRun_27 : decode cX11_clearRun 27 = .ok (.putfield 644, 3) := by decide +kernel
theorem dX11_clearRun_30 : decode cX11_clearRun 30 = .ok (.aload_n 0, 1) := by decide +kernel
theorem dX11_clearRun_31 : decode cX11_clearRun 31 = .ok (.iconst 0, 1) := by decide +kernel
theorem dX11_clearRun_32 : decode cX11_clearRun 32 = .ok (.putfield 647, 3) := by decide +kernel
theorem dX11_clearRun_35 : decode cX11_clearRun 35 = .ok (.aload_n 0, 1) := by decide +kernel
theorem dX11_clearRun_36 : decode cX11_clearRun 36 = .ok (.iconst 0, 1) := by decide +kernel
theorem dX11_clearRun_37 : decode cX11_clearRun 37 = .ok (.putfield 740, 3) := by decide +kernel
theorem dX11_clearRun_40 : decode cX11_clearRun 40 = .ok (.aload_n 0, 1) := by decide +kernel
theorem dX11_clearRun_41 : decode cX11_clearRun 41 = .ok (.iconst 0, 1) := by decide +kernel
theorem dX11_clearRun_42 : decode cX11_clearRun 42 = .ok (.putfield 709, 3) := by decide +kernel
theorem dX11_clearRun_45 : decode cX11_clearRun 45 = .ok (.aload_n 0, 1) := by decide +kernel
theorem dX11_clearRun_46 : decode cX11_clearRun 46 = .ok (.iconst 0, 1) := by decide +kernel
theorem dX11_clearRun_47 : decode cX11_clearRun 47 = .ok (.putfield 760, 3) := by decide +kernel
theorem dX11_clearRun_50 : decode cX11_clearRun 50 = .ok (.iconst 0, 1) := by decide +kernel
theorem dX11_clearRun_51 : decode cX11_clearRun 51 = .ok (.istore_n 1, 1) := by decide +kernel
theorem dX11_clearRun_52 : decode cX11_clearRun 52 = .ok (.iload_n 1, 1) := by decide +kernel
theorem dX11_clearRun_53 : decode cX11_clearRun 53 = .ok (.sipush 640, 3) := by decide +kernel
theorem dX11_clearRun_56 : decode cX11_clearRun 56 = .ok (.if_icmp .ge 16, 3) := by decide +kernel
theorem dX11_clearRun_59 : decode cX11_clearRun 59 = .ok (.aload_n 0, 1) := by decide +kernel
theorem dX11_clearRun_60 : decode cX11_clearRun 60 = .ok (.getfield 212, 3) := by decide +kernel
theorem dX11_clearRun_63 : decode cX11_clearRun 63 = .ok (.iload_n 1, 1) := by decide +kernel
theorem dX11_clearRun_64 : decode cX11_clearRun 64 = .ok (.iconst 0, 1) := by decide +kernel
theorem dX11_clearRun_65 : decode cX11_clearRun 65 = .ok (.iastore, 1) := by decide +kernel
theorem dX11_clearRun_66 : decode cX11_clearRun 66 = .ok (.iinc 1 1, 3) := by decide +kernel
theorem dX11_clearRun_69 : decode cX11_clearRun 69 = .ok (.goto (-17), 3) := by decide +kernel
theorem dX11_clearRun_72 : decode cX11_clearRun 72 = .ok (.return_, 1) := by decide +kernel
theorem mw_X11_clearRun : MW yX11_clearRun (Cond.code yX11_clearRun cX11_clearRun 2 (Option.none : Option Jvm.ClassFile.FieldType)) cX11_clearRun 2 (Option.none : Option Jvm.ClassFile.FieldType) 0 := ⟨rfl, ⟨(lw_all_tbl q2924), rfl, (lw_all_tbl q173)⟩, rfl, ⟨by decide, by decide⟩, by decide +kernel⟩
abbrev okt_clearRun_52 (x : Int) : Prop := R32 x
abbrev lvt_clearRun_52 (Γ : Gm) (x : Int) : List (Nat × Value) := [(0, vA (mg Γ) 21), (1, vI x)]
noncomputable def t_clearRun_52b {A : Type} (k_72 : Mo TS A) (l1 : Int) : Mo TS ((Int) ⊕ A) :=
  if 640 ≤ l1 then
    lo k_72
  else
    bnd (wr 110 640 l1 0) fun _ =>
    pr (.inl (w32 (l1 + 1)))
theorem st_clearRun_52b {Γ : Gm} {h : CH} {d : Nat} (hT : HT h) (o : Ok Γ "LazyForgeModel" cX11_clearRun 2 (Option.none : Option Jvm.ClassFile.FieldType) (d + 0)) {A : Type} {K : A → TS → Prop} (k_72 : Mo TS A) (hk_72 : Sx Γ (fun t => (h, t)) K 72 [] [] (k_72)) (l1 : Int) (hl1 : R32 l1) : Sx Γ (fun t => (h, t)) (KL Γ (fun t => (h, t)) okt_clearRun_52 K 52 (lvt_clearRun_52 Γ) []) 52 [(0, vA (mg Γ) 21), (1, vI l1)] [] (t_clearRun_52b k_72 l1) := by
  unfold t_clearRun_52b
  refine s_iload_n o dX11_clearRun_52 rfl 1 rfl ?_
  refine s_sipush o dX11_clearRun_53 rfl ?_
  refine s_icmp_ge (tgt := 72) o dX11_clearRun_56 (by decide) hl1 (r32 rfl) ?_ ?_
  · refine r_to [] [] rfl ?_
    exact s_lo hk_72
  · refine s_aload_n o dX11_clearRun_59 rfl 0 rfl ?_
    refine s_tga (x := 87) o hT tf_calledCounts ta_calledCounts (lw_all_tbl q2614) dX11_clearRun_60 ?_
    refine s_iload_n o dX11_clearRun_63 rfl 1 rfl ?_
    refine s_iconst o dX11_clearRun_64 ?_
    refine r_tiast o hT tr_calledCounts hl1 (r32 rfl) dX11_clearRun_65 ?_
    refine r_iinc (j := 1) o dX11_clearRun_66 rfl rfl [(0, vA (mg Γ) 21)] [0] rfl ⟨(Nat.ne_of_beq_eq_false rfl), (fun _ => (vA_cat (mg Γ) 21)), trivial⟩ ?_
    refine s_goto (tgt := 52) o dX11_clearRun_69 (by decide) ?_
    refine r_to [(0, vA (mg Γ) 21), (1, vI (w32 (l1 + 1)))] [1, 0] rfl ?_
    exact s_back (w32_R _) rfl
noncomputable def t_clearRun_52 {A : Type} (k_72 : Mo TS A) (l1 : Int) : Mo TS A := Loop (fun x => t_clearRun_52b k_72 x) l1
theorem st_clearRun_52 {Γ : Gm} {h : CH} {d : Nat} (hT : HT h) (o : Ok Γ "LazyForgeModel" cX11_clearRun 2 (Option.none : Option Jvm.ClassFile.FieldType) (d + 0)) {A : Type} {K : A → TS → Prop} (k_72 : Mo TS A) (hk_72 : Sx Γ (fun t => (h, t)) K 72 [] [] (k_72)) (l1 : Int) (hl1 : R32 l1) : Sx Γ (fun t => (h, t)) K 52 [(0, vA (mg Γ) 21), (1, vI l1)] [] (t_clearRun_52 k_72 l1) :=
  s_loop okt_clearRun_52 (lvt_clearRun_52 Γ) (fun x hx => st_clearRun_52b hT o k_72 hk_72 x hx) (x := l1) hl1
noncomputable def t_clearRun : Mo TS Int :=
  bnd (ss 111 0) fun _ =>
  bnd (ss 112 0) fun _ =>
  bnd (ss 104 0) fun _ =>
  bnd (ss 100 0) fun _ =>
  bnd (ss 105 0) fun _ =>
  bnd (ss 106 0) fun _ =>
  bnd (ss 107 0) fun _ =>
  bnd (ss 108 0) fun _ =>
  bnd (ss 109 0) fun _ =>
  bnd (ss 113 0) fun _ =>
  t_clearRun_52
    (pr 0) 0
theorem st_clearRun (g : gC) (d : Nat) (h : CH) (hT : HT h) : SF g yX11_clearRun (Cond.code yX11_clearRun cX11_clearRun 2 (Option.none : Option Jvm.ClassFile.FieldType)) (Option.none : Option Jvm.ClassFile.FieldType) (d + 0) [vA g 21] (fun t => (h, t)) (t_clearRun) := by
  refine SF.of (lv := [(0, vA g 21)]) (by decide) (wt_A wt_0) rfl (by simp only [la_A, la_I, la_J, la_0]) (fun Γ hg hnm o => ?_)
  subst hg
  have o : Ok Γ "LazyForgeModel" cX11_clearRun 2 (Option.none : Option Jvm.ClassFile.FieldType) (d + 0) := o
  unfold t_clearRun
  refine s_aload_n o dX11_clearRun_0 rfl 0 rfl ?_
  refine s_iconst o dX11_clearRun_1 ?_
  refine r_tpf vI rfl o hT tf_how tj_how (lw_all_tbl q2615) dX11_clearRun_2 (r32 rfl) ty_int ?_
  refine s_aload_n o dX11_clearRun_5 rfl 0 rfl ?_
  refine s_iconst o dX11_clearRun_6 ?_
  refine r_tpf vI rfl o hT tf_why tj_why (lw_all_tbl q2616) dX11_clearRun_7 (r32 rfl) ty_int ?_
  refine s_aload_n o dX11_clearRun_10 rfl 0 rfl ?_
  refine s_iconst o dX11_clearRun_11 ?_
  refine r_tpf vI rfl o hT tf_calls tj_calls (lw_all_tbl q2608) dX11_clearRun_12 (r32 rfl) ty_int ?_
  refine s_aload_n o dX11_clearRun_15 rfl 0 rfl ?_
  refine s_iconst o dX11_clearRun_16 ?_
  refine r_tpf vI rfl o hT tf_cells tj_cells (lw_all_tbl q2604) dX11_clearRun_17 (r32 rfl) ty_int ?_
  refine s_aload_n o dX11_clearRun_20 rfl 0 rfl ?_
  refine s_iconst o dX11_clearRun_21 ?_
  refine r_tpf vI rfl o hT tf_suspensions tj_suspensions (lw_all_tbl q2609) dX11_clearRun_22 (r32 rfl) ty_int ?_
  refine s_aload_n o dX11_clearRun_25 rfl 0 rfl ?_
  refine s_iconst o dX11_clearRun_26 ?_
  refine r_tpf vI rfl o hT tf_partials tj_partials (lw_all_tbl q2610) dX11_clearRun_27 (r32 rfl) ty_int ?_
  refine s_aload_n o dX11_clearRun_30 rfl 0 rfl ?_
  refine s_iconst o dX11_clearRun_31 ?_
  refine r_tpf vI rfl o hT tf_objects tj_objects (lw_all_tbl q2611) dX11_clearRun_32 (r32 rfl) ty_int ?_
  refine s_aload_n o dX11_clearRun_35 rfl 0 rfl ?_
  refine s_iconst o dX11_clearRun_36 ?_
  refine r_tpf vI rfl o hT tf_updates tj_updates (lw_all_tbl q2612) dX11_clearRun_37 (r32 rfl) ty_int ?_
  refine s_aload_n o dX11_clearRun_40 rfl 0 rfl ?_
  refine s_iconst o dX11_clearRun_41 ?_
  refine r_tpf vI rfl o hT tf_atOnce tj_atOnce (lw_all_tbl q2613) dX11_clearRun_42 (r32 rfl) ty_int ?_
  refine s_aload_n o dX11_clearRun_45 rfl 0 rfl ?_
  refine s_iconst o dX11_clearRun_46 ?_
  refine r_tpf vI rfl o hT tf_rowCounted tj_rowCounted (lw_all_tbl q2617) dX11_clearRun_47 (r32 rfl) ty_int ?_
  refine s_iconst o dX11_clearRun_50 ?_
  refine r_istore_n o dX11_clearRun_51 rfl rfl ⟨(Nat.ne_of_beq_eq_false rfl), (fun _ => (vA_cat (mg Γ) 21)), trivial⟩ ?_
  refine r_to [(0, vA (mg Γ) 21), (1, vI 0)] [1, 0] rfl ?_
  refine st_clearRun_52 hT o _ ?_ 0 (r32 rfl)
  · exact s_vret o rfl dX11_clearRun_72 (fun _ hh => hh)
theorem dX11_pack_0 : decode cX11_pack 0 = .ok (.iload_n 0, 1) := by decide +kernel
theorem dX11_pack_1 : decode cX11_pack 1 = .ok (.i2l, 1) := by decide +kernel
theorem dX11_pack_2 : decode cX11_pack 2 = .ok (.lstore 5, 2) := by decide +kernel
theorem dX11_pack_4 : decode cX11_pack 4 = .ok (.iload_n 1, 1) := by decide +kernel
theorem dX11_pack_5 : decode cX11_pack 5 = .ok (.ifCond .ne 8, 3) := by decide +kernel
theorem dX11_pack_8 : decode cX11_pack 8 = .ok (.lload 5, 2) := by decide +kernel
theorem dX11_pack_10 : decode cX11_pack 10 = .ok (.goto 11, 3) := by decide +kernel
theorem dX11_pack_13 : decode cX11_pack 13 = .ok (.lload 5, 2) := by decide +kernel
theorem dX11_pack_15 : decode cX11_pack 15 = .ok (.bipush 8, 2) := by decide +kernel
theorem dX11_pack_17 : decode cX11_pack 17 = .ok (.lshl, 1) := by decide +kernel
theorem dX11_pack_18 : decode cX11_pack 18 = .ok (.iload_n 1, 1) := by decide +kernel
theorem dX11_pack_19 : decode cX11_pack 19 = .ok (.i2l, 1) := by decide +kernel
theorem dX11_pack_20 : decode cX11_pack 20 = .ok (.lor, 1) := by decide +kernel
theorem dX11_pack_21 : decode cX11_pack 21 = .ok (.lstore 5, 2) := by decide +kernel
theorem dX11_pack_23 : decode cX11_pack 23 = .ok (.iload_n 2, 1) := by decide +kernel
theorem dX11_pack_24 : decode cX11_pack 24 = .ok (.ifCond .ne 8, 3) := by decide +kernel
theorem dX11_pack_27 : decode cX11_pack 27 = .ok (.lload 5, 2) := by decide +kernel
theorem dX11_pack_29 : decode cX11_pack 29 = .ok (.goto 11, 3) := by decide +kernel
theorem dX11_pack_32 : decode cX11_pack 32 = .ok (.lload 5, 2) := by decide +kernel
theorem dX11_pack_34 : decode cX11_pack 34 = .ok (.bipush 8, 2) := by decide +kernel
theorem dX11_pack_36 : decode cX11_pack 36 = .ok (.lshl, 1) := by decide +kernel
theorem dX11_pack_37 : decode cX11_pack 37 = .ok (.iload_n 2, 1) := by decide +kernel
theorem dX11_pack_38 : decode cX11_pack 38 = .ok (.i2l, 1) := by decide +kernel
theorem dX11_pack_39 : decode cX11_pack 39 = .ok (.lor, 1) := by decide +kernel
theorem dX11_pack_40 : decode cX11_pack 40 = .ok (.lstore 5, 2) := by decide +kernel
theorem dX11_pack_42 : decode cX11_pack 42 = .ok (.iload_n 3, 1) := by decide +kernel
theorem dX11_pack_43 : decode cX11_pack 43 = .ok (.ifCond .ne 8, 3) := by decide +kernel
theorem dX11_pack_46 : decode cX11_pack 46 = .ok (.lload 5, 2) := by decide +kernel
theorem dX11_pack_48 : decode cX11_pack 48 = .ok (.goto 11, 3) := by decide +kernel
theorem dX11_pack_51 : decode cX11_pack 51 = .ok (.lload 5, 2) := by decide +kernel
theorem dX11_pack_53 : decode cX11_pack 53 = .ok (.bipush 8, 2) := by decide +kernel
theorem dX11_pack_55 : decode cX11_pack 55 = .ok (.lshl, 1) := by decide +kernel
theorem dX11_pack_56 : decode cX11_pack 56 = .ok (.iload_n 3, 1) := by decide +kernel
theorem dX11_pack_57 : decode cX11_pack 57 = .ok (.i2l, 1) := by decide +kernel
theorem dX11_pack_58 : decode cX11_pack 58 = .ok (.lor, 1) := by decide +kernel
theorem dX11_pack_59 : decode cX11_pack 59 = .ok (.lstore 5, 2) := by decide +kernel
theorem dX11_pack_61 : decode cX11_pack 61 = .ok (.iload 4, 2) := by decide +kernel
theorem dX11_pack_63 : decode cX11_pack 63 = .ok (.ifCond .ne 8, 3) := by decide +kernel
theorem dX11_pack_66 : decode cX11_pack 66 = .ok (.lload 5, 2) := by decide +kernel
theorem dX11_pack_68 : decode cX11_pack 68 = .ok (.goto 12, 3) := by decide +kernel
theorem dX11_pack_71 : decode cX11_pack 71 = .ok (.lload 5, 2) := by decide +kernel
theorem dX11_pack_73 : decode cX11_pack 73 = .ok (.bipush 8, 2) := by decide +kernel
theorem dX11_pack_75 : decode cX11_pack 75 = .ok (.lshl, 1) := by decide +kernel
theorem dX11_pack_76 : decode cX11_pack 76 = .ok (.iload 4, 2) := by decide +kernel
theorem dX11_pack_78 : decode cX11_pack 78 = .ok (.i2l, 1) := by decide +kernel
theorem dX11_pack_79 : decode cX11_pack 79 = .ok (.lor, 1) := by decide +kernel
theorem dX11_pack_80 : decode cX11_pack 80 = .ok (.lreturn, 1) := by decide +kernel
theorem mw_X11_pack : MW yX11_pack (Cond.code yX11_pack cX11_pack 7 (Option.some Jvm.ClassFile.FieldType.long)) cX11_pack 7 (Option.some Jvm.ClassFile.FieldType.long) 5 := ⟨rfl, ⟨(lw_all_tbl q2931), rfl, (lw_all_tbl q173)⟩, rfl, ⟨by decide, by decide⟩, by decide +kernel⟩
noncomputable def t_pack_59  (l4 : Int) (k0 : Int) : Mo TS Int :=
  if ¬ l4 = 0 then
    pr (lor (lshl k0 8) l4)
  else
    pr k0
theorem st_pack_59 {Γ : Gm} {h : CH} {d : Nat} (o : Ok Γ "LazyForgeModel" cX11_pack 7 (Option.some Jvm.ClassFile.FieldType.long) (d + 0))   (l4 : Int) (k0 : Int) (hl4 : R32 l4) (hk0 : R64 k0) : Sx Γ (fun t => (h, t)) (fun a s => mt Γ = (0, a, ((h, s) : Wd))) 59 [(4, vI l4)] [vJ k0] (t_pack_59 l4 k0) := by
  unfold t_pack_59
  refine r_lstore o dX11_pack_59 rfl ⟨(Nat.ne_of_beq_eq_false rfl), (Nat.ne_of_beq_eq_false rfl), (fun _ => rfl), trivial⟩ ?_
  refine s_iload o dX11_pack_61 1 rfl ?_
  refine s_if_ne (tgt := 71) o dX11_pack_63 (by decide) hl4 ?_ ?_
  · refine s_lload o dX11_pack_71 0 rfl ?_
    refine s_bipush o dX11_pack_73 rfl ?_
    refine s_lshl o dX11_pack_75 ?_
    refine s_iload o dX11_pack_76 1 rfl ?_
    refine s_i2l o dX11_pack_78 hl4 ?_
    refine s_lor o dX11_pack_79 ?_
    exact s_lret o rfl (lor_R _ _) dX11_pack_80 (fun _ hh => hh)
  · refine s_lload o dX11_pack_66 0 rfl ?_
    refine s_goto (tgt := 80) o dX11_pack_68 (by decide) ?_
    exact s_lret o rfl hk0 dX11_pack_80 (fun _ hh => hh)
noncomputable def t_pack_40  (l3 : Int) (l4 : Int) (k0 : Int) : Mo TS Int :=
  if ¬ l3 = 0 then
    t_pack_59 l4 (lor (lshl k0 8) l3)
  else
    t_pack_59 l4 k0
theorem st_pack_40 {Γ : Gm} {h : CH} {d : Nat} (o : Ok Γ "LazyForgeModel" cX11_pack 7 (Option.some Jvm.ClassFile.FieldType.long) (d + 0))   (l3 : Int) (l4 : Int) (k0 : Int) (hl3 : R32 l3) (hl4 : R32 l4) (hk0 : R64 k0) : Sx Γ (fun t => (h, t)) (fun a s => mt Γ = (0, a, ((h, s) : Wd))) 40 [(3, vI l3), (4, vI l4)] [vJ k0] (t_pack_40 l3 l4 k0) := by
  unfold t_pack_40
  refine r_lstore o dX11_pack_40 rfl ⟨(Nat.ne_of_beq_eq_false rfl), (Nat.ne_of_beq_eq_false rfl), (fun _ => rfl), ⟨(Nat.ne_of_beq_eq_false rfl), (Nat.ne_of_beq_eq_false rfl), (fun _ => rfl), trivial⟩⟩ ?_
  refine s_iload_n o dX11_pack_42 rfl 1 rfl ?_
  refine s_if_ne (tgt := 51) o dX11_pack_43 (by decide) hl3 ?_ ?_
  · refine s_lload o dX11_pack_51 0 rfl ?_
    refine s_bipush o dX11_pack_53 rfl ?_
    refine s_lshl o dX11_pack_55 ?_
    refine s_iload_n o dX11_pack_56 rfl 1 rfl ?_
    refine s_i2l o dX11_pack_57 hl3 ?_
    refine s_lor o dX11_pack_58 ?_
    refine r_to [(4, vI l4)] [2] rfl ?_
    exact st_pack_59 o l4 (lor (lshl k0 8) l3) hl4 (lor_R _ _)
  · refine s_lload o dX11_pack_46 0 rfl ?_
    refine s_goto (tgt := 59) o dX11_pack_48 (by decide) ?_
    refine r_to [(4, vI l4)] [2] rfl ?_
    exact st_pack_59 o l4 k0 hl4 hk0
noncomputable def t_pack_21  (l2 : Int) (l3 : Int) (l4 : Int) (k0 : Int) : Mo TS Int :=
  if ¬ l2 = 0 then
    t_pack_40 l3 l4 (lor (lshl k0 8) l2)
  else
    t_pack_40 l3 l4 k0
theorem st_pack_21 {Γ : Gm} {h : CH} {d : Nat} (o : Ok Γ "LazyForgeModel" cX11_pack 7 (Option.some Jvm.ClassFile.FieldType.long) (d + 0))   (l2 : Int) (l3 : Int) (l4 : Int) (k0 : Int) (hl2 : R32 l2) (hl3 : R32 l3) (hl4 : R32 l4) (hk0 : R64 k0) : Sx Γ (fun t => (h, t)) (fun a s => mt Γ = (0, a, ((h, s) : Wd))) 21 [(2, vI l2), (3, vI l3), (4, vI l4)] [vJ k0] (t_pack_21 l2 l3 l4 k0) := by
  unfold t_pack_21
  refine r_lstore o dX11_pack_21 rfl ⟨(Nat.ne_of_beq_eq_false rfl), (Nat.ne_of_beq_eq_false rfl), (fun _ => rfl), ⟨(Nat.ne_of_beq_eq_false rfl), (Nat.ne_of_beq_eq_false rfl), (fun _ => rfl), ⟨(Nat.ne_of_beq_eq_false rfl), (Nat.ne_of_beq_eq_false rfl), (fun _ => rfl), trivial⟩⟩⟩ ?_
  refine s_iload_n o dX11_pack_23 rfl 1 rfl ?_
  refine s_if_ne (tgt := 32) o dX11_pack_24 (by decide) hl2 ?_ ?_
  · refine s_lload o dX11_pack_32 0 rfl ?_
    refine s_bipush o dX11_pack_34 rfl ?_
    refine s_lshl o dX11_pack_36 ?_
    refine s_iload_n o dX11_pack_37 rfl 1 rfl ?_
    refine s_i2l o dX11_pack_38 hl2 ?_
    refine s_lor o dX11_pack_39 ?_
    refine r_to [(3, vI l3), (4, vI l4)] [2, 3] rfl ?_
    exact st_pack_40 o l3 l4 (lor (lshl k0 8) l2) hl3 hl4 (lor_R _ _)
  · refine s_lload o dX11_pack_27 0 rfl ?_
    refine s_goto (tgt := 40) o dX11_pack_29 (by decide) ?_
    refine r_to [(3, vI l3), (4, vI l4)] [2, 3] rfl ?_
    exact st_pack_40 o l3 l4 k0 hl3 hl4 hk0
noncomputable def t_pack (l0 : Int) (l1 : Int) (l2 : Int) (l3 : Int) (l4 : Int) : Mo TS Int :=
  if ¬ l1 = 0 then
    t_pack_21 l2 l3 l4 (lor (lshl l0 8) l1)
  else
    t_pack_21 l2 l3 l4 l0
theorem st_pack (g : gC) (d : Nat) (h : CH) (l0 : Int) (l1 : Int) (l2 : Int) (l3 : Int) (l4 : Int) (hl0 : R32 l0) (hl1 : R32 l1) (hl2 : R32 l2) (hl3 : R32 l3) (hl4 : R32 l4) : SF g yX11_pack (Cond.code yX11_pack cX11_pack 7 (Option.some Jvm.ClassFile.FieldType.long)) (Option.some Jvm.ClassFile.FieldType.long) (d + 0) [vI l0, vI l1, vI l2, vI l3, vI l4] (fun t => (h, t)) (t_pack l0 l1 l2 l3 l4) := by
  refine SF.of (lv := [(0, vI l0), (1, vI l1), (2, vI l2), (3, vI l3), (4, vI l4)]) (by decide) (wt_I (wt_I (wt_I (wt_I (wt_I wt_0))))) rfl (by simp only [la_A, la_I, la_J, la_0]) (fun Γ hg hnm o => ?_)
  subst hg
  have o : Ok Γ "LazyForgeModel" cX11_pack 7 (Option.some Jvm.ClassFile.FieldType.long) (d + 0) := o
  unfold t_pack
  refine s_iload_n o dX11_pack_0 rfl 0 rfl ?_
  refine s_i2l o dX11_pack_1 hl0 ?_
  refine r_lstore o dX11_pack_2 rfl ⟨(Nat.ne_of_beq_eq_false rfl), (Nat.ne_of_beq_eq_false rfl), (fun _ => rfl), ⟨(Nat.ne_of_beq_eq_false rfl), (Nat.ne_of_beq_eq_false rfl), (fun _ => rfl), ⟨(Nat.ne_of_beq_eq_false rfl), (Nat.ne_of_beq_eq_false rfl), (fun _ => rfl), ⟨(Nat.ne_of_beq_eq_false rfl), (Nat.ne_of_beq_eq_false rfl), (fun _ => rfl), ⟨(Nat.ne_of_beq_eq_false rfl), (Nat.ne_of_beq_eq_false rfl), (fun _ => rfl), trivial⟩⟩⟩⟩⟩ ?_
  refine s_iload_n o dX11_pack_4 rfl 2 rfl ?_
  refine s_if_ne (tgt := 13) o dX11_pack_5 (by decide) hl1 ?_ ?_
  · refine s_lload o dX11_pack_13 0 rfl ?_
    refine s_bipush o dX11_pack_15 rfl ?_
    refine s_lshl o dX11_pack_17 ?_
    refine s_iload_n o dX11_pack_18 rfl 2 rfl ?_
    refine s_i2l o dX11_pack_19 hl1 ?_
    refine s_lor o dX11_pack_20 ?_
    refine r_to [(2, vI l2), (3, vI l3), (4, vI l4)] [3, 4, 5] rfl ?_
    exact st_pack_21 o l2 l3 l4 (lor (lshl l0 8) l1) hl2 hl3 hl4 (lor_R _ _)
  · refine s_lload o dX11_pack_8 0 rfl ?_
    refine s_goto (tgt := 21) o dX11_pack_10 (by decide) ?_
    refine r_to [(2, vI l2), (3, vI l3), (4, vI l4)] [3, 4, 5] rfl ?_
    exact st_pack_21 o l2 l3 l4 l0 hl2 hl3 hl4 (rL hl0)
theorem dX11_sign_0 : decode cX11_sign 0 = .ok (.iload_n 1, 1) := by decide +kernel
theorem dX11_sign_1 : decode cX11_sign 1 = .ok (.aload_n 0, 1) := by decide +kernel
theorem dX11_sign_2 : decode cX11_sign 2 = .ok (.getfield 254, 3) := by decide +kernel
theorem dX11_sign_5 : decode cX11_sign 5 = .ok (.if_icmp .ge 12, 3) := by decide +kernel
theorem dX11_sign_8 : decode cX11_sign 8 = .ok (.aload_n 0, 1) := by decide +kernel
theorem dX11_sign_9 : decode cX11_sign 9 = .ok (.getfield 7, 3) := by decide +kernel
theorem dX11_sign_12 : decode cX11_sign 12 = .ok (.iload_n 1, 1) := by decide +kernel
theorem dX11_sign_13 : decode cX11_sign 13 = .ok (.iaload, 1) := by decide +kernel
theorem dX11_sign_14 : decode cX11_sign 14 = .ok (.goto 4, 3) := by decide +kernel
theorem dX11_sign_17 : decode cX11_sign 17 = .ok (.iconst 0, 1) := by decide +kernel
theorem dX11_sign_18 : decode cX11_sign 18 = .ok (.ireturn, 1) := by decide +kernel
theorem mw_X11_sign : MW yX11_sign (Cond.code yX11_sign cX11_sign 2 (Option.some Jvm.ClassFile.FieldType.int)) cX11_sign 2 (Option.some Jvm.ClassFile.FieldType.int) 1 := ⟨rfl, ⟨(lw_all_tbl q2943), rfl, (lw_all_tbl q173)⟩, rfl, ⟨by decide, by decide⟩, by decide +kernel⟩
noncomputable def t_sign (l1 : Int) : Mo TS Int :=
  bnd (gs 2) fun v1 =>
  if v1 ≤ l1 then
    pr 0
  else
    bnd (rd 1 3000 l1) fun v2 =>
    pr v2
theorem st_sign (g : gC) (d : Nat) (h : CH) (hT : HT h) (l1 : Int) (hl1 : R32 l1) : SF g yX11_sign (Cond.code yX11_sign cX11_sign 2 (Option.some Jvm.ClassFile.FieldType.int)) (Option.some Jvm.ClassFile.FieldType.int) (d + 0) [vA g 21, vI l1] (fun t => (h, t)) (t_sign l1) := by
  refine SF.of (lv := [(0, vA g 21), (1, vI l1)]) (by decide) (wt_A (wt_I wt_0)) rfl (by simp only [la_A, la_I, la_J, la_0]) (fun Γ hg hnm o => ?_)
  subst hg
  have o : Ok Γ "LazyForgeModel" cX11_sign 2 (Option.some Jvm.ClassFile.FieldType.int) (d + 0) := o
  unfold t_sign
  refine s_iload_n o dX11_sign_0 rfl 1 rfl ?_
  refine s_aload_n o dX11_sign_1 rfl 0 rfl ?_
  refine r_tgf vI rfl o hT tf_size tj_size (lw_all_tbl q2506) dX11_sign_2 (fun v1 hv1 => ?_)
  refine s_icmp_ge (tgt := 17) o dX11_sign_5 (by decide) hl1 hv1 ?_ ?_
  · refine s_iconst o dX11_sign_17 ?_
    exact s_iret o rfl i_int (r32 rfl) dX11_sign_18 (fun _ hh => hh)
  · refine s_aload_n o dX11_sign_8 rfl 0 rfl ?_
    refine s_tga (x := 22) o hT tf_text ta_text (lw_all_tbl q2505) dX11_sign_9 ?_
    refine s_iload_n o dX11_sign_12 rfl 1 rfl ?_
    refine r_tiald o hT tr_text hl1 dX11_sign_13 (fun v2 hv2 => ?_)
    refine s_goto (tgt := 18) o dX11_sign_14 (by decide) ?_
    exact s_iret o rfl i_int hv2 dX11_sign_18 (fun _ hh => hh)
theorem dX11_isSmall_0 : decode cX11_isSmall 0 = .ok (.iload_n 0, 1) := by decide +kernel
theorem dX11_isSmall_1 : decode cX11_isSmall 1 = .ok (.bipush 97, 2) := by decide +kernel
theorem dX11_isSmall_3 : decode cX11_isSmall 3 = .ok (.if_icmp .lt 13, 3) := by decide +kernel
theorem dX11_isSmall_6 : decode cX11_isSmall 6 = .ok (.iload_n 0, 1) := by decide +kernel
theorem dX11_isSmall_7 : decode cX11_isSmall 7 = .ok (.bipush 122, 2) := by decide +kernel
theorem dX11_isSmall_9 : decode cX11_isSmall 9 = .ok (.if_icmp .gt 7, 3) := by decide +kernel
theorem dX11_isSmall_12 : decode cX11_isSmall 12 = .ok (.iconst 1, 1) := by decide +kernel
theorem dX11_isSmall_13 : decode cX11_isSmall 13 = .ok (.goto 4, 3) := by decide +kernel
theorem dX11_isSmall_16 : decode cX11_isSmall 16 = .ok (.iconst 0, 1) := by decide +kernel
theorem dX11_isSmall_17 : decode cX11_isSmall 17 = .ok (.ireturn, 1) := by decide +kernel
theorem mw_X11_isSmall : MW yX11_isSmall (Cond.code yX11_isSmall cX11_isSmall 1 (Option.some Jvm.ClassFile.FieldType.boolean)) cX11_isSmall 1 (Option.some Jvm.ClassFile.FieldType.boolean) 1 := ⟨rfl, ⟨(lw_all_tbl q2946), rfl, (lw_all_tbl q173)⟩, rfl, ⟨by decide, by decide⟩, by decide +kernel⟩
noncomputable def t_isSmall (l0 : Int) : Mo TS Int :=
  if l0 < 97 then
    pr 0
  else
    if 122 < l0 then
      pr 0
    else
      pr 1
theorem st_isSmall (g : gC) (d : Nat) (h : CH) (l0 : Int) (hl0 : R32 l0) : SF g yX11_isSmall (Cond.code yX11_isSmall cX11_isSmall 1 (Option.some Jvm.ClassFile.FieldType.boolean)) (Option.some Jvm.ClassFile.FieldType.boolean) (d + 0) [vI l0] (fun t => (h, t)) (t_isSmall l0) := by
  refine SF.of (lv := [(0, vI l0)]) (by decide) (wt_I wt_0) rfl (by simp only [la_A, la_I, la_J, la_0]) (fun Γ hg hnm o => ?_)
  subst hg
  have o : Ok Γ "LazyForgeModel" cX11_isSmall 1 (Option.some Jvm.ClassFile.FieldType.boolean) (d + 0) := o
  unfold t_isSmall
  refine s_iload_n o dX11_isSmall_0 rfl 0 rfl ?_
  refine s_bipush o dX11_isSmall_1 rfl ?_
  refine s_icmp_lt (tgt := 16) o dX11_isSmall_3 (by decide) hl0 (r32 rfl) ?_ ?_
  · refine s_iconst o dX11_isSmall_16 ?_
    exact s_iret o rfl i_boolean (Or.inl rfl) dX11_isSmall_17 (fun _ hh => hh)
  · refine s_iload_n o dX11_isSmall_6 rfl 0 rfl ?_
    refine s_bipush o dX11_isSmall_7 rfl ?_
    refine s_icmp_gt (tgt := 16) o dX11_isSmall_9 (by decide) hl0 (r32 rfl) ?_ ?_
    · refine s_iconst o dX11_isSmall_16 ?_
      exact s_iret o rfl i_boolean (Or.inl rfl) dX11_isSmall_17 (fun _ hh => hh)
    · refine s_iconst o dX11_isSmall_12 ?_
      refine s_goto (tgt := 17) o dX11_isSmall_13 (by decide) ?_
      exact s_iret o rfl i_boolean (Or.inr rfl) dX11_isSmall_17 (fun _ hh => hh)
theorem dX11_isCapital_0 : decode cX11_isCapital 0 = .ok (.iload_n 0, 1) := by decide +kernel
theorem dX11_isCapital_1 : decode cX11_isCapital 1 = .ok (.bipush 65, 2) := by decide +kernel
theorem dX11_isCapital_3 : decode cX11_isCapital 3 = .ok (.if_icmp .lt 13, 3) := by decide +kernel
theorem dX11_isCapital_6 : decode cX11_isCapital 6 = .ok (.iload_n 0, 1) := by decide +kernel
theorem dX11_isCapital_7 : decode cX11_isCapital 7 = .ok (.bipush 90, 2) := by decide +kernel
theorem dX11_isCapital_9 : decode cX11_isCapital 9 = .ok (.if_icmp .gt 7, 3) := by decide +kernel
theorem dX11_isCapital_12 : decode cX11_isCapital 12 = .ok (.iconst 1, 1) := by decide +kernel
theorem dX11_isCapital_13 : decode cX11_isCapital 13 = .ok (.goto 4, 3) := by decide +kernel
theorem dX11_isCapital_16 : decode cX11_isCapital 16 = .ok (.iconst 0, 1) := by decide +kernel
theorem dX11_isCapital_17 : decode cX11_isCapital 17 = .ok (.ireturn, 1) := by decide +kernel
theorem mw_X11_isCapital : MW yX11_isCapital (Cond.code yX11_isCapital cX11_isCapital 1 (Option.some Jvm.ClassFile.FieldType.boolean)) cX11_isCapital 1 (Option.some Jvm.ClassFile.FieldType.boolean) 1 := ⟨rfl, ⟨(lw_all_tbl q2949), rfl, (lw_all_tbl q173)⟩, rfl, ⟨by decide, by decide⟩, by decide +kernel⟩
noncomputable def t_isCapital (l0 : Int) : Mo TS Int :=
  if l0 < 65 then
    pr 0
  else
    if 90 < l0 then
      pr 0
    else
      pr 1
theorem st_isCapital (g : gC) (d : Nat) (h : CH) (l0 : Int) (hl0 : R32 l0) : SF g yX11_isCapital (Cond.code yX11_isCapital cX11_isCapital 1 (Option.some Jvm.ClassFile.FieldType.boolean)) (Option.some Jvm.ClassFile.FieldType.boolean) (d + 0) [vI l0] (fun t => (h, t)) (t_isCapital l0) := by
  refine SF.of (lv := [(0, vI l0)]) (by decide) (wt_I wt_0) rfl (by simp only [la_A, la_I, la_J, la_0]) (fun Γ hg hnm o => ?_)
  subst hg
  have o : Ok Γ "LazyForgeModel" cX11_isCapital 1 (Option.some Jvm.ClassFile.FieldType.boolean) (d + 0) := o
  unfold t_isCapital
  refine s_iload_n o dX11_isCapital_0 rfl 0 rfl ?_
  refine s_bipush o dX11_isCapital_1 rfl ?_
  refine s_icmp_lt (tgt := 16) o dX11_isCapital_3 (by decide) hl0 (r32 rfl) ?_ ?_
  · refine s_iconst o dX11_isCapital_16 ?_
    exact s_iret o rfl i_boolean (Or.inl rfl) dX11_isCapital_17 (fun _ hh => hh)
  · refine s_iload_n o dX11_isCapital_6 rfl 0 rfl ?_
    refine s_bipush o dX11_isCapital_7 rfl ?_
    refine s_icmp_gt (tgt := 16) o dX11_isCapital_9 (by decide) hl0 (r32 rfl) ?_ ?_
    · refine s_iconst o dX11_isCapital_16 ?_
      exact s_iret o rfl i_boolean (Or.inl rfl) dX11_isCapital_17 (fun _ hh => hh)
    · refine s_iconst o dX11_isCapital_12 ?_
      refine s_goto (tgt := 17) o dX11_isCapital_13 (by decide) ?_
      exact s_iret o rfl i_boolean (Or.inr rfl) dX11_isCapital_17 (fun _ hh => hh)
theorem dX11_isDigit_0 : decode cX11_isDigit 0 = .ok (.iload_n 0, 1) := by decide +kernel
theorem dX11_isDigit_1 : decode cX11_isDigit 1 = .ok (.bipush 48, 2) := by decide +kernel
theorem dX11_isDigit_3 : decode cX11_isDigit 3 = .ok (.if_icmp .lt 13, 3) := by decide +kernel
theorem dX11_isDigit_6 : decode cX11_isDigit 6 = .ok (.iload_n 0, 1) := by decide +kernel
theorem dX11_isDigit_7 : decode cX11_isDigit 7 = .ok (.bipush 57, 2) := by decide +kernel
theorem dX11_isDigit_9 : decode cX11_isDigit 9 = .ok (.if_icmp .gt 7, 3) := by decide +kernel
theorem dX11_isDigit_12 : decode cX11_isDigit 12 = .ok (.iconst 1, 1) := by decide +kernel
theorem dX11_isDigit_13 : decode cX11_isDigit 13 = .ok (.goto 4, 3) := by decide +kernel
theorem dX11_isDigit_16 : decode cX11_isDigit 16 = .ok (.iconst 0, 1) := by decide +kernel
theorem dX11_isDigit_17 : decode cX11_isDigit 17 = .ok (.ireturn, 1) := by decide +kernel
theorem mw_X11_isDigit : MW yX11_isDigit (Cond.code yX11_isDigit cX11_isDigit 1 (Option.some Jvm.ClassFile.FieldType.boolean)) cX11_isDigit 1 (Option.some Jvm.ClassFile.FieldType.boolean) 1 := ⟨rfl, ⟨(lw_all_tbl q2956), rfl, (lw_all_tbl q173)⟩, rfl, ⟨by decide, by decide⟩, by decide +kernel⟩
noncomputable def t_isDigit (l0 : Int) : Mo TS Int :=
  if l0 < 48 then
    pr 0
  else
    if 57 < l0 then
      pr 0
    else
      pr 1
theorem st_isDigit (g : gC) (d : Nat) (h : CH) (l0 : Int) (hl0 : R32 l0) : SF g yX11_isDigit (Cond.code yX11_isDigit cX11_isDigit 1 (Option.some Jvm.ClassFile.FieldType.boolean)) (Option.some Jvm.ClassFile.FieldType.boolean) (d + 0) [vI l0] (fun t => (h, t)) (t_isDigit l0) := by
  refine SF.of (lv := [(0, vI l0)]) (by decide) (wt_I wt_0) rfl (by simp only [la_A, la_I, la_J, la_0]) (fun Γ hg hnm o => ?_)
  subst hg
  have o : Ok Γ "LazyForgeModel" cX11_isDigit 1 (Option.some Jvm.ClassFile.FieldType.boolean) (d + 0) := o
  unfold t_isDigit
  refine s_iload_n o dX11_isDigit_0 rfl 0 rfl ?_
  refine s_bipush o dX11_isDigit_1 rfl ?_
  refine s_icmp_lt (tgt := 16) o dX11_isDigit_3 (by decide) hl0 (r32 rfl) ?_ ?_
  · refine s_iconst o dX11_isDigit_16 ?_
    exact s_iret o rfl i_boolean (Or.inl rfl) dX11_isDigit_17 (fun _ hh => hh)
  · refine s_iload_n o dX11_isDigit_6 rfl 0 rfl ?_
    refine s_bipush o dX11_isDigit_7 rfl ?_
    refine s_icmp_gt (tgt := 16) o dX11_isDigit_9 (by decide) hl0 (r32 rfl) ?_ ?_
    · refine s_iconst o dX11_isDigit_16 ?_
      exact s_iret o rfl i_boolean (Or.inl rfl) dX11_isDigit_17 (fun _ hh => hh)
    · refine s_iconst o dX11_isDigit_12 ?_
      refine s_goto (tgt := 17) o dX11_isDigit_13 (by decide) ?_
      exact s_iret o rfl i_boolean (Or.inr rfl) dX11_isDigit_17 (fun _ hh => hh)
theorem dX11_findConstructor_0 : decode cX11_findConstructor 0 = .ok (.iconst 0, 1) := by decide +kernel
theorem dX11_findConstructor_1 : decode cX11_findConstructor 1 = .ok (.istore_n 3, 1) := by decide +kernel
theorem dX11_findConstructor_2 : decode cX11_findConstructor 2 = .ok (.iload_n 3, 1) := by decide +kernel
theorem dX11_findConstructor_3 : decode cX11_findConstructor 3 = .ok (.aload_n 0, 1) := by decide +kernel
theorem dX11_findConstructor_4 : decode cX11_findConstructor 4 = .ok (.getfield 348, 3) := by decide +kernel
theorem dX11_findConstructor_7 : decode cX11_findConstructor 7 = .ok (.if_icmp .ge 20, 3) := by decide +kernel
theorem dX11_findConstructor_10 : decode cX11_findConstructor 10 = .ok (.aload_n 0, 1) := by decide +kernel
theorem dX11_findConstructor_11 : decode cX11_findConstructor 11 = .ok (.getfield 59, 3) := by decide +kernel
theorem dX11_findConstructor_14 : decode cX11_findConstructor 14 = .ok (.iload_n 3, 1) := by decide +kernel
theorem dX11_findConstructor_15 : decode cX11_findConstructor 15 = .ok (.laload, 1) := by decide +kernel
theorem dX11_findConstructor_16 : decode cX11_findConstructor 16 = .ok (.lload_n 1, 1) := by decide +kernel
theorem dX11_findConstructor_17 : decode cX11_findConstructor 17 = .ok (.lcmp, 1) := by decide +kernel
theorem dX11_findConstructor_18 : decode cX11_findConstructor 18 = .ok (.ifCond .eq 9, 3) := by decide +kernel
theorem dX11_findConstructor_21 : decode cX11_findConstructor 21 = .ok (.iinc 3 1, 3) := by decide +kernel
theorem dX11_findConstructor_24 : decode cX11_findConstructor 24 = .ok (.goto (-22), 3) := by decide +kernel
theorem dX11_findConstructor_27 : decode cX11_findConstructor 27 = .ok (.iload_n 3, 1) := by decide +kernel
theorem dX11_findConstructor_28 : decode cX11_findConstructor 28 = .ok (.aload_n 0, 1) := by decide +kernel
theorem dX11_findConstructor_29 : decode cX11_findConstructor 29 = .ok (.getfield 348, 3) := by decide +kernel
theorem dX11_findConstructor_32 : decode cX11_findConstructor 32 = .ok (.if_icmp .ge 7, 3) := by decide +kernel
theorem dX11_findConstructor_35 : decode cX11_findConstructor 35 = .ok (.iload_n 3, 1) := by decide +kernel
theorem dX11_findConstructor_36 : decode cX11_findConstructor 36 = .ok (.goto 4, 3) := by decide +kernel
theorem dX11_findConstructor_39 : decode cX11_findConstructor 39 = .ok (.iconst (-1), 1) := by decide +kernel
theorem dX11_findConstructor_40 : decode cX11_findConstructor 40 = .ok (.ireturn, 1) := by decide +kernel
theorem mw_X11_findConstructor : MW yX11_findConstructor (Cond.code yX11_findConstructor cX11_findConstructor 4 (Option.some Jvm.ClassFile.FieldType.int)) cX11_findConstructor 4 (Option.some Jvm.ClassFile.FieldType.int) 1 := ⟨rfl, ⟨(lw_all_tbl q2974), rfl, (lw_all_tbl q173)⟩, rfl, ⟨by decide, by decide⟩, by decide +kernel⟩
abbrev okt_findConstructor_2 (x : Int × Int) : Prop := R64 x.1 ∧ R32 x.2
abbrev lvt_findConstructor_2 (Γ : Gm) (x : Int × Int) : List (Nat × Value) := [(0, vA (mg Γ) 21), (1, vJ x.1), (3, vI x.2)]
noncomputable def t_findConstructor_2b {A : Type} (k_27 : Int → Mo TS A) (l1 : Int) (l3 : Int) : Mo TS ((Int × Int) ⊕ A) :=
  bnd (gs 31) fun v1 =>
  if v1 ≤ l3 then
    lo (k_27 l3)
  else
    bnd (rd 32 30 l3) fun v2 =>
    if v2 = l1 then
      lo (k_27 l3)
    else
      pr (.inl (l1, (w32 (l3 + 1))))
theorem st_findConstructor_2b {Γ : Gm} {h : CH} {d : Nat} (hT : HT h) (o : Ok Γ "LazyForgeModel" cX11_findConstructor 4 (Option.some Jvm.ClassFile.FieldType.int) (d + 0)) {A : Type} {K : A → TS → Prop} (k_27 : Int → Mo TS A) (hk_27 : ∀ (l3 : Int), R32 l3 → Sx Γ (fun t => (h, t)) K 27 [(0, vA (mg Γ) 21), (3, vI l3)] [] (k_27 l3)) (l1 : Int) (l3 : Int) (hl1 : R64 l1) (hl3 : R32 l3) : Sx Γ (fun t => (h, t)) (KL Γ (fun t => (h, t)) okt_findConstructor_2 K 2 (lvt_findConstructor_2 Γ) []) 2 [(0, vA (mg Γ) 21), (1, vJ l1), (3, vI l3)] [] (t_findConstructor_2b k_27 l1 l3) := by
  unfold t_findConstructor_2b
  refine s_iload_n o dX11_findConstructor_2 rfl 2 rfl ?_
  refine s_aload_n o dX11_findConstructor_3 rfl 0 rfl ?_
  refine r_tgf vI rfl o hT tf_constructors tj_constructors (lw_all_tbl q2535) dX11_findConstructor_4 (fun v1 hv1 => ?_)
  refine s_icmp_ge (tgt := 27) o dX11_findConstructor_7 (by decide) hl3 hv1 ?_ ?_
  · refine r_to [(0, vA (mg Γ) 21), (3, vI l3)] [0, 2] rfl ?_
    exact s_lo (hk_27 l3 hl3)
  · refine s_aload_n o dX11_findConstructor_10 rfl 0 rfl ?_
    refine s_tga (x := 38) o hT tf_constructorNames ta_constructorNames (lw_all_tbl q2536) dX11_findConstructor_11 ?_
    refine s_iload_n o dX11_findConstructor_14 rfl 2 rfl ?_
    refine r_tlald o hT tr_constructorNames hl3 dX11_findConstructor_15 (fun v2 hv2 => ?_)
    refine s_lload_n o dX11_findConstructor_16 rfl 1 rfl ?_
    refine s_lcmp_eq (tgt := 27) o dX11_findConstructor_17 dX11_findConstructor_18 (by decide) hv2 hl1 ?_ ?_
    · refine r_to [(0, vA (mg Γ) 21), (3, vI l3)] [0, 2] rfl ?_
      exact s_lo (hk_27 l3 hl3)
    · refine r_iinc (j := 2) o dX11_findConstructor_21 rfl rfl [(0, vA (mg Γ) 21), (1, vJ l1)] [0, 1] rfl ⟨(Nat.ne_of_beq_eq_false rfl), (fun _ => (vA_cat (mg Γ) 21)), ⟨(Nat.ne_of_beq_eq_false rfl), (fun e => absurd e (Nat.ne_of_beq_eq_false rfl)), trivial⟩⟩ ?_
      refine s_goto (tgt := 2) o dX11_findConstructor_24 (by decide) ?_
      refine r_to [(0, vA (mg Γ) 21), (1, vJ l1), (3, vI (w32 (l3 + 1)))] [1, 2, 0] rfl ?_
      exact s_back (⟨hl1, (w32_R _)⟩) rfl
noncomputable def t_findConstructor_2 {A : Type} (k_27 : Int → Mo TS A) (l1 : Int) (l3 : Int) : Mo TS A := Loop (fun x => t_findConstructor_2b k_27 x.1 x.2) (l1, l3)
theorem st_findConstructor_2 {Γ : Gm} {h : CH} {d : Nat} (hT : HT h) (o : Ok Γ "LazyForgeModel" cX11_findConstructor 4 (Option.some Jvm.ClassFile.FieldType.int) (d + 0)) {A : Type} {K : A → TS → Prop} (k_27 : Int → Mo TS A) (hk_27 : ∀ (l3 : Int), R32 l3 → Sx Γ (fun t => (h, t)) K 27 [(0, vA (mg Γ) 21), (3, vI l3)] [] (k_27 l3)) (l1 : Int) (l3 : Int) (hl1 : R64 l1) (hl3 : R32 l3) : Sx Γ (fun t => (h, t)) K 2 [(0, vA (mg Γ) 21), (1, vJ l1), (3, vI l3)] [] (t_findConstructor_2 k_27 l1 l3) :=
  s_loop okt_findConstructor_2 (lvt_findConstructor_2 Γ) (fun x hx => st_findConstructor_2b hT o k_27 hk_27 x.1 x.2 hx.1 hx.2) (x := (l1, l3)) ⟨hl1, hl3⟩
noncomputable def t_findConstructor (l1 : Int) : Mo TS Int :=
  t_findConstructor_2
    (fun v1 => bnd (gs 31) fun v2 =>
  if v2 ≤ v1 then
    pr (-1)
  else
    pr v1) l1 0
theorem st_findConstructor (g : gC) (d : Nat) (h : CH) (hT : HT h) (l1 : Int) (hl1 : R64 l1) : SF g yX11_findConstructor (Cond.code yX11_findConstructor cX11_findConstructor 4 (Option.some Jvm.ClassFile.FieldType.int)) (Option.some Jvm.ClassFile.FieldType.int) (d + 0) [vA g 21, vJ l1] (fun t => (h, t)) (t_findConstructor l1) := by
  refine SF.of (lv := [(0, vA g 21), (1, vJ l1)]) (by decide) (wt_A (wt_J wt_0)) rfl (by simp only [la_A, la_I, la_J, la_0]) (fun Γ hg hnm o => ?_)
  subst hg
  have o : Ok Γ "LazyForgeModel" cX11_findConstructor 4 (Option.some Jvm.ClassFile.FieldType.int) (d + 0) := o
  unfold t_findConstructor
  refine s_iconst o dX11_findConstructor_0 ?_
  refine r_istore_n o dX11_findConstructor_1 rfl rfl ⟨(Nat.ne_of_beq_eq_false rfl), (fun _ => (vA_cat (mg Γ) 21)), ⟨(Nat.ne_of_beq_eq_false rfl), (fun e => absurd e (Nat.ne_of_beq_eq_false rfl)), trivial⟩⟩ ?_
  refine r_to [(0, vA (mg Γ) 21), (1, vJ l1), (3, vI 0)] [1, 2, 0] rfl ?_
  refine st_findConstructor_2 hT o _ ?_ l1 0 hl1 (r32 rfl)
  · intro v1 hv1
    refine s_iload_n o dX11_findConstructor_27 rfl 1 rfl ?_
    refine s_aload_n o dX11_findConstructor_28 rfl 0 rfl ?_
    refine r_tgf vI rfl o hT tf_constructors tj_constructors (lw_all_tbl q2535) dX11_findConstructor_29 (fun v2 hv2 => ?_)
    refine s_icmp_ge (tgt := 39) o dX11_findConstructor_32 (by decide) hv1 hv2 ?_ ?_
    · refine s_iconst o dX11_findConstructor_39 ?_
      exact s_iret o rfl i_int (r32 rfl) dX11_findConstructor_40 (fun _ hh => hh)
    · refine s_iload_n o dX11_findConstructor_35 rfl 1 rfl ?_
      refine s_goto (tgt := 40) o dX11_findConstructor_36 (by decide) ?_
      exact s_iret o rfl i_int hv1 dX11_findConstructor_40 (fun _ hh => hh)
theorem dX11_fail_0 : decode cX11_fail 0 = .ok (.aload_n 0, 1) := by decide +kernel
theorem dX11_fail_1 : decode cX11_fail 1 = .ok (.getfield 311, 3) := by decide +kernel
theorem dX11_fail_4 : decode cX11_fail 4 = .ok (.ifCond .ne 13, 3) := by decide +kernel
theorem dX11_fail_7 : decode cX11_fail 7 = .ok (.aload_n 0, 1) := by decide +kernel
theorem dX11_fail_8 : decode cX11_fail 8 = .ok (.iload_n 1, 1) := by decide +kernel
theorem dX11_fail_9 : decode cX11_fail 9 = .ok (.putfield 311, 3) := by decide +kernel
theorem dX11_fail_12 : decode cX11_fail 12 = .ok (.aload_n 0, 1) := by decide +kernel
theorem dX11_fail_13 : decode cX11_fail 13 = .ok (.iload_n 2, 1) := by decide +kernel
theorem dX11_fail_14 : decode cX11_fail 14 = .ok (.putfield 314, 3) := by decide +kernel
theorem dX11_fail_17 : decode cX11_fail 17 = .ok (.return_, 1) := by decide +kernel
theorem mw_X11_fail : MW yX11_fail (Cond.code yX11_fail cX11_fail 3 (Option.none : Option Jvm.ClassFile.FieldType)) cX11_fail 3 (Option.none : Option Jvm.ClassFile.FieldType) 2 := ⟨rfl, ⟨(lw_all_tbl q2978), rfl, (lw_all_tbl q173)⟩, rfl, ⟨by decide, by decide⟩, by decide +kernel⟩
noncomputable def t_fail (l1 : Int) (l2 : Int) : Mo TS Int :=
  bnd (gs 10) fun v1 =>
  if ¬ v1 = 0 then
    pr 0
  else
    bnd (ss 10 l1) fun _ =>
    bnd (ss 11 l2) fun _ =>
    pr 0
theorem st_fail (g : gC) (d : Nat) (h : CH) (hT : HT h) (l1 : Int) (l2 : Int) (hl1 : R32 l1) (hl2 : R32 l2) : SF g yX11_fail (Cond.code yX11_fail cX11_fail 3 (Option.none : Option Jvm.ClassFile.FieldType)) (Option.none : Option Jvm.ClassFile.FieldType) (d + 0) [vA g 21, vI l1, vI l2] (fun t => (h, t)) (t_fail l1 l2) := by
  refine SF.of (lv := [(0, vA g 21), (1, vI l1), (2, vI l2)]) (by decide) (wt_A (wt_I (wt_I wt_0))) rfl (by simp only [la_A, la_I, la_J, la_0]) (fun Γ hg hnm o => ?_)
  subst hg
  have o : Ok Γ "LazyForgeModel" cX11_fail 3 (Option.none : Option Jvm.ClassFile.FieldType) (d + 0) := o
  unfold t_fail
  refine s_aload_n o dX11_fail_0 rfl 0 rfl ?_
  refine r_tgf vI rfl o hT tf_fault tj_fault (lw_all_tbl q2514) dX11_fail_1 (fun v1 hv1 => ?_)
  refine s_if_ne (tgt := 17) o dX11_fail_4 (by decide) hv1 ?_ ?_
  · exact s_vret o rfl dX11_fail_17 (fun _ hh => hh)
  · refine s_aload_n o dX11_fail_7 rfl 0 rfl ?_
    refine s_iload_n o dX11_fail_8 rfl 1 rfl ?_
    refine r_tpf vI rfl o hT tf_fault tj_fault (lw_all_tbl q2514) dX11_fail_9 hl1 ty_int ?_
    refine s_aload_n o dX11_fail_12 rfl 0 rfl ?_
    refine s_iload_n o dX11_fail_13 rfl 2 rfl ?_
    refine r_tpf vI rfl o hT tf_faultPlace tj_faultPlace (lw_all_tbl q2515) dX11_fail_14 hl2 ty_int ?_
    exact s_vret o rfl dX11_fail_17 (fun _ hh => hh)
theorem dX11_isSign_0 : decode cX11_isSign 0 = .ok (.aload_n 0, 1) := by decide +kernel
theorem dX11_isSign_1 : decode cX11_isSign 1 = .ok (.getfield 286, 3) := by decide +kernel
theorem dX11_isSign_4 : decode cX11_isSign 4 = .ok (.bipush 100, 2) := by decide +kernel
theorem dX11_isSign_6 : decode cX11_isSign 6 = .ok (.iload_n 1, 1) := by decide +kernel
theorem dX11_isSign_7 : decode cX11_isSign 7 = .ok (.iadd, 1) := by decide +kernel
theorem dX11_isSign_8 : decode cX11_isSign 8 = .ok (.if_icmp .ne 7, 3) := by decide +kernel
theorem dX11_isSign_11 : decode cX11_isSign 11 = .ok (.iconst 1, 1) := by decide +kernel
theorem dX11_isSign_12 : decode cX11_isSign 12 = .ok (.goto 4, 3) := by decide +kernel
theorem dX11_isSign_15 : decode cX11_isSign 15 = .ok (.iconst 0, 1) := by decide +kernel
theorem dX11_isSign_16 : decode cX11_isSign 16 = .ok (.ireturn, 1) := by decide +kernel
theorem mw_X11_isSign : MW yX11_isSign (Cond.code yX11_isSign cX11_isSign 2 (Option.some Jvm.ClassFile.FieldType.boolean)) cX11_isSign 2 (Option.some Jvm.ClassFile.FieldType.boolean) 1 := ⟨rfl, ⟨(lw_all_tbl q2990), rfl, (lw_all_tbl q173)⟩, rfl, ⟨by decide, by decide⟩, by decide +kernel⟩
noncomputable def t_isSign (l1 : Int) : Mo TS Int :=
  bnd (gs 6) fun v1 =>
  if ¬ v1 = (w32 (100 + l1)) then
    pr 0
  else
    pr 1
theorem st_isSign (g : gC) (d : Nat) (h : CH) (hT : HT h) (l1 : Int) (hl1 : R32 l1) : SF g yX11_isSign (Cond.code yX11_isSign cX11_isSign 2 (Option.some Jvm.ClassFile.FieldType.boolean)) (Option.some Jvm.ClassFile.FieldType.boolean) (d + 0) [vA g 21, vI l1] (fun t => (h, t)) (t_isSign l1) := by
  refine SF.of (lv := [(0, vA g 21), (1, vI l1)]) (by decide) (wt_A (wt_I wt_0)) rfl (by simp only [la_A, la_I, la_J, la_0]) (fun Γ hg hnm o => ?_)
  subst hg
  have o : Ok Γ "LazyForgeModel" cX11_isSign 2 (Option.some Jvm.ClassFile.FieldType.boolean) (d + 0) := o
  unfold t_isSign
  refine s_aload_n o dX11_isSign_0 rfl 0 rfl ?_
  refine r_tgf vI rfl o hT tf_word tj_word (lw_all_tbl q2510) dX11_isSign_1 (fun v1 hv1 => ?_)
  refine s_bipush o dX11_isSign_4 rfl ?_
  refine s_iload_n o dX11_isSign_6 rfl 1 rfl ?_
  refine s_iadd o dX11_isSign_7 ?_
  refine s_icmp_ne (tgt := 15) o dX11_isSign_8 (by decide) hv1 (w32_R _) ?_ ?_
  · refine s_iconst o dX11_isSign_15 ?_
    exact s_iret o rfl i_boolean (Or.inl rfl) dX11_isSign_16 (fun _ hh => hh)
  · refine s_iconst o dX11_isSign_11 ?_
    refine s_goto (tgt := 16) o dX11_isSign_12 (by decide) ?_
    exact s_iret o rfl i_boolean (Or.inr rfl) dX11_isSign_16 (fun _ hh => hh)
theorem dX11_node_0 : decode cX11_node 0 = .ok (.aload_n 0, 1) := by decide +kernel
theorem dX11_node_1 : decode cX11_node 1 = .ok (.getfield 327, 3) := by decide +kernel
theorem dX11_node_4 : decode cX11_node 4 = .ok (.istore_n 2, 1) := by decide +kernel
theorem dX11_node_5 : decode cX11_node 5 = .ok (.aload_n 0, 1) := by decide +kernel
theorem dX11_node_6 : decode cX11_node 6 = .ok (.dup, 1) := by decide +kernel
theorem dX11_node_7 : decode cX11_node 7 = .ok (.getfield 327, 3) := by decide +kernel
theorem dX11_node_10 : decode cX11_node 10 = .ok (.iconst 1, 1) := by decide +kernel
theorem dX11_node_11 : decode cX11_node 11 = .ok (.iadd, 1) := by decide +kernel
theorem dX11_node_12 : decode cX11_node 12 = .ok (.putfield 327, 3) := by decide +kernel
theorem dX11_node_15 : decode cX11_node 15 = .ok (.aload_n 0, 1) := by decide +kernel
theorem dX11_node_16 : decode cX11_node 16 = .ok (.getfield 16, 3) := by decide +kernel
theorem dX11_node_19 : decode cX11_node 19 = .ok (.iload_n 2, 1) := by decide +kernel
theorem dX11_node_20 : decode cX11_node 20 = .ok (.iload_n 1, 1) := by decide +kernel
theorem dX11_node_21 : decode cX11_node 21 = .ok (.iastore, 1) := by decide +kernel
theorem dX11_node_22 : decode cX11_node 22 = .ok (.aload_n 0, 1) := by decide +kernel
theorem dX11_node_23 : decode cX11_node 23 = .ok (.getfield 19, 3) := by decide +kernel
theorem dX11_node_26 : decode cX11_node 26 = .ok (.iload_n 2, 1) := by decide +kernel
theorem dX11_node_27 : decode cX11_node 27 = .ok (.iconst (-1), 1) := by decide +kernel
theorem dX11_node_28 : decode cX11_node 28 = .ok (.iastore, 1) := by decide +kernel
theorem dX11_node_29 : decode cX11_node 29 = .ok (.aload_n 0, 1) := by decide +kernel
theorem dX11_node_30 : decode cX11_node 30 = .ok (.getfield 22, 3) := by decide +kernel
theorem dX11_node_33 : decode cX11_node 33 = .ok (.iload_n 2, 1) := by decide +kernel
theorem dX11_node_34 : decode cX11_node 34 = .ok (.iconst (-1), 1) := by decide +kernel
theorem dX11_node_35 : decode cX11_node 35 = .ok (.iastore, 1) := by decide +kernel
theorem dX11_node_36 : decode cX11_node 36 = .ok (.aload_n 0, 1) := by decide +kernel
theorem dX11_node_37 : decode cX11_node 37 = .ok (.getfield 25, 3) := by decide +kernel
theorem dX11_node_40 : decode cX11_node 40 = .ok (.iload_n 2, 1) := by decide +kernel
theorem dX11_node_41 : decode cX11_node 41 = .ok (.iconst (-1), 1) := by decide +kernel
theorem dX11_node_42 : decode cX11_node 42 = .ok (.iastore, 1) := by decide +kernel
theorem dX11_node_43 : decode cX11_node 43 = .ok (.aload_n 0, 1) := by decide +kernel
theorem dX11_node_44 : decode cX11_node 44 = .ok (.getfield 28, 3) := by decide +kernel
theorem dX11_node_47 : decode cX11_node 47 = .ok (.iload_n 2, 1) := by decide +kernel
theorem dX11_node_48 : decode cX11_node 48 = .ok (.aload_n 0, 1) := by decide +kernel
theorem dX11_node_49 : decode cX11_node 49 = .ok (.getfield 275, 3) := by decide +kernel
theorem dX11_node_52 : decode cX11_node 52 = .ok (.iastore, 1) := by decide +kernel
theorem dX11_node_53 : decode cX11_node 53 = .ok (.aload_n 0, 1) := by decide +kernel
theorem dX11_node_54 : decode cX11_node 54 = .ok (.getfield 31, 3) := by decide +kernel
theorem dX11_node_57 : decode cX11_node 57 = .ok (.iload_n 2, 1) := by decide +kernel
theorem dX11_node_58 : decode cX11_node 58 = .ok (.iconst 0, 1) := by decide +kernel
theorem dX11_node_59 : decode cX11_node 59 = .ok (.iastore, 1) := by decide +kernel
theorem dX11_node_60 : decode cX11_node 60 = .ok (.aload_n 0, 1) := by decide +kernel
theorem dX11_node_61 : decode cX11_node 61 = .ok (.getfield 34, 3) := by decide +kernel
theorem dX11_node_64 : decode cX11_node 64 = .ok (.iload_n 2, 1) := by decide +kernel
theorem dX11_node_65 : decode cX11_node 65 = .ok (.iconst 0, 1) := by decide +kernel
theorem dX11_node_66 : decode cX11_node 66 = .ok (.iastore, 1) := by decide +kernel
theorem dX11_node_67 : decode cX11_node 67 = .ok (.aload_n 0, 1) := by decide +kernel
theorem dX11_node_68 : decode cX11_node 68 = .ok (.getfield 37, 3) := by decide +kernel
theorem dX11_node_71 : decode cX11_node 71 = .ok (.iload_n 2, 1) := by decide +kernel
theorem dX11_node_72 : decode cX11_node 72 = .ok (.lconst 0, 1) := by decide +kernel
theorem dX11_node_73 : decode cX11_node 73 = .ok (.lastore, 1) := by decide +kernel
theorem dX11_node_74 : decode cX11_node 74 = .ok (.aload_n 0, 1) := by decide +kernel
theorem dX11_node_75 : decode cX11_node 75 = .ok (.getfield 41, 3) := by decide +kernel
theorem dX11_node_78 : decode cX11_node 78 = .ok (.iload_n 2, 1) := by decide +kernel
theorem dX11_node_79 : decode cX11_node 79 = .ok (.aload_n 0, 1) := by decide +kernel
theorem dX11_node_80 : decode cX11_node 80 = .ok (.getfield 330, 3) := by decide +kernel
theorem dX11_node_83 : decode cX11_node 83 = .ok (.iastore, 1) := by decide +kernel
theorem dX11_node_84 : decode cX11_node 84 = .ok (.aload_n 0, 1) := by decide +kernel
theorem dX11_node_85 : decode cX11_node 85 = .ok (.getfield 44, 3) := by decide +kernel
theorem dX11_node_88 : decode cX11_node 88 = .ok (.iload_n 2, 1) := by decide +kernel
theorem dX11_node_89 : decode cX11_node 89 = .ok (.iconst 0, 1) := by decide +kernel
theorem dX11_node_90 : decode cX11_node 90 = .ok (.iastore, 1) := by decide +kernel
theorem dX11_node_91 : decode cX11_node 91 = .ok (.iload_n 2, 1) := by decide +kernel
theorem dX11_node_92 : decode cX11_node 92 = .ok (.ireturn, 1) := by decide +kernel
theorem mw_X11_node : MW yX11_node (Cond.code yX11_node cX11_node 3 (Option.some Jvm.ClassFile.FieldType.int)) cX11_node 3 (Option.some Jvm.ClassFile.FieldType.int) 1 := ⟨rfl, ⟨(lw_all_tbl q2998), rfl, (lw_all_tbl q173)⟩, rfl, ⟨by decide, by decide⟩, by decide +kernel⟩
noncomputable def t_node (l1 : Int) : Mo TS Int :=
  bnd (gs 12) fun v1 =>
  bnd (gs 12) fun v2 =>
  bnd (ss 12 (w32 (v2 + 1))) fun _ =>
  bnd (wr 13 3200 v1 l1) fun _ =>
  bnd (wr 14 3200 v1 (-1)) fun _ =>
  bnd (wr 15 3200 v1 (-1)) fun _ =>
  bnd (wr 16 3200 v1 (-1)) fun _ =>
  bnd (gs 7) fun v3 =>
  bnd (wr 17 3200 v1 v3) fun _ =>
  bnd (wr 18 3200 v1 0) fun _ =>
  bnd (wr 19 3200 v1 0) fun _ =>
  bnd (wr 20 3200 v1 0) fun _ =>
  bnd (gs 23) fun v4 =>
  bnd (wr 21 3200 v1 v4) fun _ =>
  bnd (wr 22 3200 v1 0) fun _ =>
  pr v1
theorem st_node (g : gC) (d : Nat) (h : CH) (hT : HT h) (l1 : Int) (hl1 : R32 l1) : SF g yX11_node (Cond.code yX11_node cX11_node 3 (Option.some Jvm.ClassFile.FieldType.int)) (Option.some Jvm.ClassFile.FieldType.int) (d + 0) [vA g 21, vI l1] (fun t => (h, t)) (t_node l1) := by
  refine SF.of (lv := [(0, vA g 21), (1, vI l1)]) (by decide) (wt_A (wt_I wt_0)) rfl (by simp only [la_A, la_I, la_J, la_0]) (fun Γ hg hnm o => ?_)
  subst hg
  have o : Ok Γ "LazyForgeModel" cX11_node 3 (Option.some Jvm.ClassFile.FieldType.int) (d + 0) := o
  unfold t_node
  refine s_aload_n o dX11_node_0 rfl 0 rfl ?_
  refine r_tgf vI rfl o hT tf_nodes tj_nodes (lw_all_tbl q2516) dX11_node_1 (fun v1 hv1 => ?_)
  refine r_istore_n o dX11_node_4 rfl rfl ⟨(Nat.ne_of_beq_eq_false rfl), (fun _ => (vA_cat (mg Γ) 21)), ⟨(Nat.ne_of_beq_eq_false rfl), (fun _ => rfl), trivial⟩⟩ ?_
  refine s_aload_n o dX11_node_5 rfl 1 rfl ?_
  refine s_dup o dX11_node_6 (vA_cat (mg Γ) 21) ?_
  refine r_tgf vI rfl o hT tf_nodes tj_nodes (lw_all_tbl q2516) dX11_node_7 (fun v2 hv2 => ?_)
  refine s_iconst o dX11_node_10 ?_
  refine s_iadd o dX11_node_11 ?_
  refine r_tpf vI rfl o hT tf_nodes tj_nodes (lw_all_tbl q2516) dX11_node_12 (w32_R _) ty_int ?_
  refine s_aload_n o dX11_node_15 rfl 1 rfl ?_
  refine s_tga (x := 24) o hT tf_kinds ta_kinds (lw_all_tbl q2517) dX11_node_16 ?_
  refine s_iload_n o dX11_node_19 rfl 0 rfl ?_
  refine s_iload_n o dX11_node_20 rfl 2 rfl ?_
  refine r_tiast o hT tr_kinds hv1 hl1 dX11_node_21 ?_
  refine s_aload_n o dX11_node_22 rfl 1 rfl ?_
  refine s_tga (x := 25) o hT tf_firsts ta_firsts (lw_all_tbl q2518) dX11_node_23 ?_
  refine s_iload_n o dX11_node_26 rfl 0 rfl ?_
  refine s_iconst o dX11_node_27 ?_
  refine r_tiast o hT tr_firsts hv1 (r32 rfl) dX11_node_28 ?_
  refine s_aload_n o dX11_node_29 rfl 1 rfl ?_
  refine s_tga (x := 26) o hT tf_seconds ta_seconds (lw_all_tbl q2519) dX11_node_30 ?_
  refine s_iload_n o dX11_node_33 rfl 0 rfl ?_
  refine s_iconst o dX11_node_34 ?_
  refine r_tiast o hT tr_seconds hv1 (r32 rfl) dX11_node_35 ?_
  refine s_aload_n o dX11_node_36 rfl 1 rfl ?_
  refine s_tga (x := 27) o hT tf_nexts ta_nexts (lw_all_tbl q2520) dX11_node_37 ?_
  refine s_iload_n o dX11_node_40 rfl 0 rfl ?_
  refine s_iconst o dX11_node_41 ?_
  refine r_tiast o hT tr_nexts hv1 (r32 rfl) dX11_node_42 ?_
  refine s_aload_n o dX11_node_43 rfl 1 rfl ?_
  refine s_tga (x := 28) o hT tf_places ta_places (lw_all_tbl q2521) dX11_node_44 ?_
  refine s_iload_n o dX11_node_47 rfl 0 rfl ?_
  refine s_aload_n o dX11_node_48 rfl 1 rfl ?_
  refine r_tgf vI rfl o hT tf_wordPlace tj_wordPlace (lw_all_tbl q2511) dX11_node_49 (fun v3 hv3 => ?_)
  refine r_tiast o hT tr_places hv1 hv3 dX11_node_52 ?_
  refine s_aload_n o dX11_node_53 rfl 1 rfl ?_
  refine s_tga (x := 29) o hT tf_values ta_values (lw_all_tbl q2522) dX11_node_54 ?_
  refine s_iload_n o dX11_node_57 rfl 0 rfl ?_
  refine s_iconst o dX11_node_58 ?_
  refine r_tiast o hT tr_values hv1 (r32 rfl) dX11_node_59 ?_
  refine s_aload_n o dX11_node_60 rfl 1 rfl ?_
  refine s_tga (x := 30) o hT tf_sorts ta_sorts (lw_all_tbl q2523) dX11_node_61 ?_
  refine s_iload_n o dX11_node_64 rfl 0 rfl ?_
  refine s_iconst o dX11_node_65 ?_
  refine r_tiast o hT tr_sorts hv1 (r32 rfl) dX11_node_66 ?_
  refine s_aload_n o dX11_node_67 rfl 1 rfl ?_
  refine s_tga (x := 31) o hT tf_nodeNames ta_nodeNames (lw_all_tbl q2524) dX11_node_68 ?_
  refine s_iload_n o dX11_node_71 rfl 0 rfl ?_
  refine s_lconst (x := 0) o dX11_node_72 rfl ?_
  refine r_tlast o hT tr_nodeNames hv1 (r64 rfl) dX11_node_73 ?_
  refine s_aload_n o dX11_node_74 rfl 1 rfl ?_
  refine s_tga (x := 32) o hT tf_giveBegins ta_giveBegins (lw_all_tbl q2525) dX11_node_75 ?_
  refine s_iload_n o dX11_node_78 rfl 0 rfl ?_
  refine s_aload_n o dX11_node_79 rfl 1 rfl ?_
  refine r_tgf vI rfl o hT tf_gives tj_gives (lw_all_tbl q2527) dX11_node_80 (fun v4 hv4 => ?_)
  refine r_tiast o hT tr_giveBegins hv1 hv4 dX11_node_83 ?_
  refine s_aload_n o dX11_node_84 rfl 1 rfl ?_
  refine s_tga (x := 33) o hT tf_giveCounts ta_giveCounts (lw_all_tbl q2526) dX11_node_85 ?_
  refine s_iload_n o dX11_node_88 rfl 0 rfl ?_
  refine s_iconst o dX11_node_89 ?_
  refine r_tiast o hT tr_giveCounts hv1 (r32 rfl) dX11_node_90 ?_
  refine s_iload_n o dX11_node_91 rfl 0 rfl ?_
  exact s_iret o rfl i_int hv1 dX11_node_92 (fun _ hh => hh)
theorem dX11_isGiven_0 : decode cX11_isGiven 0 = .ok (.iconst 0, 1) := by decide +kernel
theorem dX11_isGiven_1 : decode cX11_isGiven 1 = .ok (.istore 4, 2) := by decide +kernel
theorem dX11_isGiven_3 : decode cX11_isGiven 3 = .ok (.iconst 0, 1) := by decide +kernel
theorem dX11_isGiven_4 : decode cX11_isGiven 4 = .ok (.istore 5, 2) := by decide +kernel
theorem dX11_isGiven_6 : decode cX11_isGiven 6 = .ok (.iload 5, 2) := by decide +kernel
theorem dX11_isGiven_8 : decode cX11_isGiven 8 = .ok (.aload_n 0, 1) := by decide +kernel
theorem dX11_isGiven_9 : decode cX11_isGiven 9 = .ok (.getfield 44, 3) := by decide +kernel
theorem dX11_isGiven_12 : decode cX11_isGiven 12 = .ok (.iload_n 1, 1) := by decide +kernel
theorem dX11_isGiven_13 : decode cX11_isGiven 13 = .ok (.iaload, 1) := by decide +kernel
theorem dX11_isGiven_14 : decode cX11_isGiven 14 = .ok (.if_icmp .ge 40, 3) := by decide +kernel
theorem dX11_isGiven_17 : decode cX11_isGiven 17 = .ok (.iload 4, 2) := by decide +kernel
theorem dX11_isGiven_19 : decode cX11_isGiven 19 = .ok (.ifCond .ne 22, 3) := by decide +kernel
theorem dX11_isGiven_22 : decode cX11_isGiven 22 = .ok (.aload_n 0, 1) := by decide +kernel
theorem dX11_isGiven_23 : decode cX11_isGiven 23 = .ok (.getfield 47, 3) := by decide +kernel
theorem dX11_isGiven_26 : decode cX11_isGiven 26 = .ok (.aload_n 0, 1) := by decide +kernel
theorem dX11_isGiven_27 : decode cX11_isGiven 27 = .ok (.getfield 41, 3) := by decide +kernel
theorem dX11_isGiven_30 : decode cX11_isGiven 30 = .ok (.iload_n 1, 1) := by decide +kernel
theorem dX11_isGiven_31 : decode cX11_isGiven 31 = .ok (.iaload, 1) := by decide +kernel
theorem dX11_isGiven_32 : decode cX11_isGiven 32 = .ok (.iload 5, 2) := by decide +kernel
theorem dX11_isGiven_34 : decode cX11_isGiven 34 = .ok (.iadd, 1) := by decide +kernel
theorem dX11_isGiven_35 : decode cX11_isGiven 35 = .ok (.laload, 1) := by decide +kernel
theorem dX11_isGiven_36 : decode cX11_isGiven 36 = .ok (.lload_n 2, 1) := by decide +kernel
theorem dX11_isGiven_37 : decode cX11_isGiven 37 = .ok (.lcmp, 1) := by decide +kernel
theorem dX11_isGiven_38 : decode cX11_isGiven 38 = .ok (.ifCond .ne 7, 3) := by decide +kernel
theorem dX11_isGiven_41 : decode cX11_isGiven 41 = .ok (.iconst 1, 1) := by decide +kernel
theorem dX11_isGiven_42 : decode cX11_isGiven 42 = .ok (.goto 4, 3) := by decide +kernel
theorem dX11_isGiven_45 : decode cX11_isGiven 45 = .ok (.iconst 0, 1) := by decide +kernel
theorem dX11_isGiven_46 : decode cX11_isGiven 46 = .ok (.istore 4, 2) := by decide +kernel
theorem dX11_isGiven_48 : decode cX11_isGiven 48 = .ok (.iinc 5 1, 3) := by decide +kernel
theorem dX11_isGiven_51 : decode cX11_isGiven 51 = .ok (.goto (-45), 3) := by decide +kernel
theorem dX11_isGiven_54 : decode cX11_isGiven 54 = .ok (.iload 4, 2) := by decide +kernel
theorem dX11_isGiven_56 : decode cX11_isGiven 56 = .ok (.ireturn, 1) := by decide +kernel
theorem mw_X11_isGiven : MW yX11_isGiven (Cond.code yX11_isGiven cX11_isGiven 6 (Option.some Jvm.ClassFile.FieldType.boolean)) cX11_isGiven 6 (Option.some Jvm.ClassFile.FieldType.boolean) 2 := ⟨rfl, ⟨(lw_all_tbl q3006), rfl, (lw_all_tbl q173)⟩, rfl, ⟨by decide, by decide⟩, by decide +kernel⟩
abbrev okt_isGiven_6 (x : Int × Int × Int × Int) : Prop := R32 x.1 ∧ R64 x.2.1 ∧ rg .boolean x.2.2.1 ∧ R32 x.2.2.2
abbrev lvt_isGiven_6 (Γ : Gm) (x : Int × Int × Int × Int) : List (Nat × Value) := [(0, vA (mg Γ) 21), (1, vI x.1), (2, vJ x.2.1), (4, vI x.2.2.1), (5, vI x.2.2.2)]
noncomputable def t_isGiven_46 {A : Type} (k_54 : Int → Mo TS A) (l1 : Int) (l2 : Int) (l5 : Int) (k0 : Int) : Mo TS ((Int × Int × Int × Int) ⊕ A) :=
  pr (.inl (l1, l2, k0, (w32 (l5 + 1))))
theorem st_isGiven_46 {Γ : Gm} {h : CH} {d : Nat} (hT : HT h) (o : Ok Γ "LazyForgeModel" cX11_isGiven 6 (Option.some Jvm.ClassFile.FieldType.boolean) (d + 0)) {A : Type} {K : A → TS → Prop}  (k_54 : Int → Mo TS A) (hk_54 : ∀ (l4 : Int), rg .boolean l4 → Sx Γ (fun t => (h, t)) K 54 [(4, vI l4)] [] (k_54 l4)) (l1 : Int) (l2 : Int) (l5 : Int) (k0 : Int) (hl1 : R32 l1) (hl2 : R64 l2) (hl5 : R32 l5) (hk0 : rg .boolean k0) : Sx Γ (fun t => (h, t)) (KL Γ (fun t => (h, t)) okt_isGiven_6 K 6 (lvt_isGiven_6 Γ) []) 46 [(0, vA (mg Γ) 21), (1, vI l1), (2, vJ l2), (5, vI l5)] [vI k0] (t_isGiven_46 k_54 l1 l2 l5 k0) := by
  unfold t_isGiven_46
  refine r_istore o dX11_isGiven_46 rfl ⟨(Nat.ne_of_beq_eq_false rfl), (fun _ => (vA_cat (mg Γ) 21)), ⟨(Nat.ne_of_beq_eq_false rfl), (fun _ => rfl), ⟨(Nat.ne_of_beq_eq_false rfl), (fun e => absurd e (Nat.ne_of_beq_eq_false rfl)), ⟨(Nat.ne_of_beq_eq_false rfl), (fun _ => rfl), trivial⟩⟩⟩⟩ ?_
  refine r_iinc (j := 4) o dX11_isGiven_48 rfl rfl [(4, vI k0), (0, vA (mg Γ) 21), (1, vI l1), (2, vJ l2)] [0, 1, 2, 3] rfl ⟨(Nat.ne_of_beq_eq_false rfl), (fun _ => rfl), ⟨(Nat.ne_of_beq_eq_false rfl), (fun _ => (vA_cat (mg Γ) 21)), ⟨(Nat.ne_of_beq_eq_false rfl), (fun _ => rfl), ⟨(Nat.ne_of_beq_eq_false rfl), (fun e => absurd e (Nat.ne_of_beq_eq_false rfl)), trivial⟩⟩⟩⟩ ?_
  refine s_goto (tgt := 6) o dX11_isGiven_51 (by decide) ?_
  refine r_to [(0, vA (mg Γ) 21), (1, vI l1), (2, vJ l2), (4, vI k0), (5, vI (w32 (l5 + 1)))] [2, 3, 4, 1, 0] rfl ?_
  exact s_back (⟨hl1, hl2, hk0, (w32_R _)⟩) rfl
noncomputable def t_isGiven_41 {A : Type} (k_54 : Int → Mo TS A) (l1 : Int) (l2 : Int) (l5 : Int) : Mo TS ((Int × Int × Int × Int) ⊕ A) :=
  t_isGiven_46 k_54 l1 l2 l5 1
theorem st_isGiven_41 {Γ : Gm} {h : CH} {d : Nat} (hT : HT h) (o : Ok Γ "LazyForgeModel" cX11_isGiven 6 (Option.some Jvm.ClassFile.FieldType.boolean) (d + 0)) {A : Type} {K : A → TS → Prop}  (k_54 : Int → Mo TS A) (hk_54 : ∀ (l4 : Int), rg .boolean l4 → Sx Γ (fun t => (h, t)) K 54 [(4, vI l4)] [] (k_54 l4)) (l1 : Int) (l2 : Int) (l5 : Int) (hl1 : R32 l1) (hl2 : R64 l2) (hl5 : R32 l5) : Sx Γ (fun t => (h, t)) (KL Γ (fun t => (h, t)) okt_isGiven_6 K 6 (lvt_isGiven_6 Γ) []) 41 [(0, vA (mg Γ) 21), (1, vI l1), (2, vJ l2), (5, vI l5)] [] (t_isGiven_41 k_54 l1 l2 l5) := by
  unfold t_isGiven_41
  refine s_iconst o dX11_isGiven_41 ?_
  refine s_goto (tgt := 46) o dX11_isGiven_42 (by decide) ?_
  exact st_isGiven_46 hT o k_54 hk_54 l1 l2 l5 1 hl1 hl2 hl5 (Or.inr rfl)
noncomputable def t_isGiven_6b {A : Type} (k_54 : Int → Mo TS A) (l1 : Int) (l2 : Int) (l4 : Int) (l5 : Int) : Mo TS ((Int × Int × Int × Int) ⊕ A) :=
  bnd (rd 22 3200 l1) fun v1 =>
  if v1 ≤ l5 then
    lo (k_54 l4)
  else
    if ¬ l4 = 0 then
      t_isGiven_41 k_54 l1 l2 l5
    else
      bnd (rd 21 3200 l1) fun v2 =>
      bnd (rd 24 3200 (w32 (v2 + l5))) fun v3 =>
      if ¬ v3 = l2 then
        t_isGiven_46 k_54 l1 l2 l5 0
      else
        t_isGiven_41 k_54 l1 l2 l5
theorem st_isGiven_6b {Γ : Gm} {h : CH} {d : Nat} (hT : HT h) (o : Ok Γ "LazyForgeModel" cX11_isGiven 6 (Option.some Jvm.ClassFile.FieldType.boolean) (d + 0)) {A : Type} {K : A → TS → Prop} (k_54 : Int → Mo TS A) (hk_54 : ∀ (l4 : Int), rg .boolean l4 → Sx Γ (fun t => (h, t)) K 54 [(4, vI l4)] [] (k_54 l4)) (l1 : Int) (l2 : Int) (l4 : Int) (l5 : Int) (hl1 : R32 l1) (hl2 : R64 l2) (hl4 : rg .boolean l4) (hl5 : R32 l5) : Sx Γ (fun t => (h, t)) (KL Γ (fun t => (h, t)) okt_isGiven_6 K 6 (lvt_isGiven_6 Γ) []) 6 [(0, vA (mg Γ) 21), (1, vI l1), (2, vJ l2), (4, vI l4), (5, vI l5)] [] (t_isGiven_6b k_54 l1 l2 l4 l5) := by
  unfold t_isGiven_6b
  refine s_iload o dX11_isGiven_6 4 rfl ?_
  refine s_aload_n o dX11_isGiven_8 rfl 0 rfl ?_
  refine s_tga (x := 33) o hT tf_giveCounts ta_giveCounts (lw_all_tbl q2526) dX11_isGiven_9 ?_
  refine s_iload_n o dX11_isGiven_12 rfl 1 rfl ?_
  refine r_tiald o hT tr_giveCounts hl1 dX11_isGiven_13 (fun v1 hv1 => ?_)
  refine s_icmp_ge (tgt := 54) o dX11_isGiven_14 (by decide) hl5 hv1 ?_ ?_
  · refine r_to [(4, vI l4)] [3] rfl ?_
    exact s_lo (hk_54 l4 hl4)
  · refine s_iload o dX11_isGiven_17 3 rfl ?_
    refine s_if_ne (tgt := 41) o dX11_isGiven_19 (by decide) (rZ hl4) ?_ ?_
    · refine r_to [(0, vA (mg Γ) 21), (1, vI l1), (2, vJ l2), (5, vI l5)] [0, 1, 2, 4] rfl ?_
      exact st_isGiven_41 hT o k_54 hk_54 l1 l2 l5 hl1 hl2 hl5
    · refine s_aload_n o dX11_isGiven_22 rfl 0 rfl ?_
      refine s_tga (x := 34) o hT tf_given ta_given (lw_all_tbl q2528) dX11_isGiven_23 ?_
      refine s_aload_n o dX11_isGiven_26 rfl 0 rfl ?_
      refine s_tga (x := 32) o hT tf_giveBegins ta_giveBegins (lw_all_tbl q2525) dX11_isGiven_27 ?_
      refine s_iload_n o dX11_isGiven_30 rfl 1 rfl ?_
      refine r_tiald o hT tr_giveBegins hl1 dX11_isGiven_31 (fun v2 hv2 => ?_)
      refine s_iload o dX11_isGiven_32 4 rfl ?_
      refine s_iadd o dX11_isGiven_34 ?_
      refine r_tlald o hT tr_given (w32_R _) dX11_isGiven_35 (fun v3 hv3 => ?_)
      refine s_lload_n o dX11_isGiven_36 rfl 2 rfl ?_
      refine s_lcmp_ne (tgt := 45) o dX11_isGiven_37 dX11_isGiven_38 (by decide) hv3 hl2 ?_ ?_
      · refine s_iconst o dX11_isGiven_45 ?_
        refine r_to [(0, vA (mg Γ) 21), (1, vI l1), (2, vJ l2), (5, vI l5)] [0, 1, 2, 4] rfl ?_
        exact st_isGiven_46 hT o k_54 hk_54 l1 l2 l5 0 hl1 hl2 hl5 (Or.inl rfl)
      · refine r_to [(0, vA (mg Γ) 21), (1, vI l1), (2, vJ l2), (5, vI l5)] [0, 1, 2, 4] rfl ?_
        exact st_isGiven_41 hT o k_54 hk_54 l1 l2 l5 hl1 hl2 hl5
noncomputable def t_isGiven_6 {A : Type} (k_54 : Int → Mo TS A) (l1 : Int) (l2 : Int) (l4 : Int) (l5 : Int) : Mo TS A := Loop (fun x => t_isGiven_6b k_54 x.1 x.2.1 x.2.2.1 x.2.2.2) (l1, l2, l4, l5)
theorem st_isGiven_6 {Γ : Gm} {h : CH} {d : Nat} (hT : HT h) (o : Ok Γ "LazyForgeModel" cX11_isGiven 6 (Option.some Jvm.ClassFile.FieldType.boolean) (d + 0)) {A : Type} {K : A → TS → Prop} (k_54 : Int → Mo TS A) (hk_54 : ∀ (l4 : Int), rg .boolean l4 → Sx Γ (fun t => (h, t)) K 54 [(4, vI l4)] [] (k_54 l4)) (l1 : Int) (l2 : Int) (l4 : Int) (l5 : Int) (hl1 : R32 l1) (hl2 : R64 l2) (hl4 : rg .boolean l4) (hl5 : R32 l5) : Sx Γ (fun t => (h, t)) K 6 [(0, vA (mg Γ) 21), (1, vI l1), (2, vJ l2), (4, vI l4), (5, vI l5)] [] (t_isGiven_6 k_54 l1 l2 l4 l5) :=
  s_loop okt_isGiven_6 (lvt_isGiven_6 Γ) (fun x hx => st_isGiven_6b hT o k_54 hk_54 x.1 x.2.1 x.2.2.1 x.2.2.2 hx.1 hx.2.1 hx.2.2.1 hx.2.2.2) (x := (l1, l2, l4, l5)) ⟨hl1, hl2, hl4, hl5⟩
noncomputable def t_isGiven (l1 : Int) (l2 : Int) : Mo TS Int :=
  t_isGiven_6
    (fun v1 => pr v1) l1 l2 0 0
theorem st_isGiven (g : gC) (d : Nat) (h : CH) (hT : HT h) (l1 : Int) (l2 : Int) (hl1 : R32 l1) (hl2 : R64 l2) : SF g yX11_isGiven (Cond.code yX11_isGiven cX11_isGiven 6 (Option.some Jvm.ClassFile.FieldType.boolean)) (Option.some Jvm.ClassFile.FieldType.boolean) (d + 0) [vA g 21, vI l1, vJ l2] (fun t => (h, t)) (t_isGiven l1 l2) := by
  refine SF.of (lv := [(0, vA g 21), (1, vI l1), (2, vJ l2)]) (by decide) (wt_A (wt_I (wt_J wt_0))) rfl (by simp only [la_A, la_I, la_J, la_0]) (fun Γ hg hnm o => ?_)
  subst hg
  have o : Ok Γ "LazyForgeModel" cX11_isGiven 6 (Option.some Jvm.ClassFile.FieldType.boolean) (d + 0) := o
  unfold t_isGiven
  refine s_iconst o dX11_isGiven_0 ?_
  refine r_istore o dX11_isGiven_1 rfl ⟨(Nat.ne_of_beq_eq_false rfl), (fun _ => (vA_cat (mg Γ) 21)), ⟨(Nat.ne_of_beq_eq_false rfl), (fun _ => rfl), ⟨(Nat.ne_of_beq_eq_false rfl), (fun e => absurd e (Nat.ne_of_beq_eq_false rfl)), trivial⟩⟩⟩ ?_
  refine s_iconst o dX11_isGiven_3 ?_
  refine r_istore o dX11_isGiven_4 rfl ⟨(Nat.ne_of_beq_eq_false rfl), (fun _ => rfl), ⟨(Nat.ne_of_beq_eq_false rfl), (fun _ => (vA_cat (mg Γ) 21)), ⟨(Nat.ne_of_beq_eq_false rfl), (fun _ => rfl), ⟨(Nat.ne_of_beq_eq_false rfl), (fun e => absurd e (Nat.ne_of_beq_eq_false rfl)), trivial⟩⟩⟩⟩ ?_
  refine r_to [(0, vA (mg Γ) 21), (1, vI l1), (2, vJ l2), (4, vI 0), (5, vI 0)] [2, 3, 4, 1, 0] rfl ?_
  refine st_isGiven_6 hT o _ ?_ l1 l2 0 0 hl1 hl2 (Or.inl rfl) (r32 rfl)
  · intro v1 hv1
    refine s_iload o dX11_isGiven_54 0 rfl ?_
    exact s_iret o rfl i_boolean hv1 dX11_isGiven_56 (fun _ hh => hh)
theorem dX11_giveName_0 : decode cX11_giveName 0 = .ok (.aload_n 0, 1) := by decide +kernel
theorem dX11_giveName_1 : decode cX11_giveName 1 = .ok (.getfield 47, 3) := by decide +kernel
theorem dX11_giveName_4 : decode cX11_giveName 4 = .ok (.aload_n 0, 1) := by decide +kernel
theorem dX11_giveName_5 : decode cX11_giveName 5 = .ok (.getfield 330, 3) := by decide +kernel
theorem dX11_giveName_8 : decode cX11_giveName 8 = .ok (.lload_n 2, 1) := by decide +kernel
theorem dX11_giveName_9 : decode cX11_giveName 9 = .ok (.lastore, 1) := by decide +kernel
theorem dX11_giveName_10 : decode cX11_giveName 10 = .ok (.aload_n 0, 1) := by decide +kernel
theorem dX11_giveName_11 : decode cX11_giveName 11 = .ok (.dup, 1) := by decide +kernel
theorem dX11_giveName_12 : decode cX11_giveName 12 = .ok (.getfield 330, 3) := by decide +kernel
theorem dX11_giveName_15 : decode cX11_giveName 15 = .ok (.iconst 1, 1) := by decide +kernel
theorem dX11_giveName_16 : decode cX11_giveName 16 = .ok (.iadd, 1) := by decide +kernel
theorem dX11_giveName_17 : decode cX11_giveName 17 = .ok (.putfield 330, 3) := by decide +kernel
theorem dX11_giveName_20 : decode cX11_giveName 20 = .ok (.aload_n 0, 1) := by decide +kernel
theorem dX11_giveName_21 : decode cX11_giveName 21 = .ok (.getfield 44, 3) := by decide +kernel
theorem dX11_giveName_24 : decode cX11_giveName 24 = .ok (.iload_n 1, 1) := by decide +kernel
theorem dX11_giveName_25 : decode cX11_giveName 25 = .ok (.dup2, 1) := by decide +kernel
theorem dX11_giveName_26 : decode cX11_giveName 26 = .ok (.iaload, 1) := by decide +kernel
theorem dX11_giveName_27 : decode cX11_giveName 27 = .ok (.iconst 1, 1) := by decide +kernel
theorem dX11_giveName_28 : decode cX11_giveName 28 = .ok (.iadd, 1) := by decide +kernel
theorem dX11_giveName_29 : decode cX11_giveName 29 = .ok (.iastore, 1) := by decide +kernel
theorem dX11_giveName_30 : decode cX11_giveName 30 = .ok (.return_, 1) := by decide +kernel
theorem mw_X11_giveName : MW yX11_giveName (Cond.code yX11_giveName cX11_giveName 4 (Option.none : Option Jvm.ClassFile.FieldType)) cX11_giveName 4 (Option.none : Option Jvm.ClassFile.FieldType) 2 := ⟨rfl, ⟨(lw_all_tbl q3014), rfl, (lw_all_tbl q173)⟩, rfl, ⟨by decide, by decide⟩, by decide +kernel⟩
noncomputable def t_giveName (l1 : Int) (l2 : Int) : Mo TS Int :=
  bnd (gs 23) fun v1 =>
  bnd (wr 24 3200 v1 l2) fun _ =>
  bnd (gs 23) fun v2 =>
  bnd (ss 23 (w32 (v2 + 1))) fun _ =>
  bnd (rd 22 3200 l1) fun v3 =>
  bnd (wr 22 3200 l1 (w32 (v3 + 1))) fun _ =>
  pr 0
theorem st_giveName (g : gC) (d : Nat) (h : CH) (hT : HT h) (l1 : Int) (l2 : Int) (hl1 : R32 l1) (hl2 : R64 l2) : SF g yX11_giveName (Cond.code yX11_giveName cX11_giveName 4 (Option.none : Option Jvm.ClassFile.FieldType)) (Option.none : Option Jvm.ClassFile.FieldType) (d + 0) [vA g 21, vI l1, vJ l2] (fun t => (h, t)) (t_giveName l1 l2) := by
  refine SF.of (lv := [(0, vA g 21), (1, vI l1), (2, vJ l2)]) (by decide) (wt_A (wt_I (wt_J wt_0))) rfl (by simp only [la_A, la_I, la_J, la_0]) (fun Γ hg hnm o => ?_)
  subst hg
  have o : Ok Γ "LazyForgeModel" cX11_giveName 4 (Option.none : Option Jvm.ClassFile.FieldType) (d + 0) := o
  unfold t_giveName
  refine s_aload_n o dX11_giveName_0 rfl 0 rfl ?_
  refine s_tga (x := 34) o hT tf_given ta_given (lw_all_tbl q2528) dX11_giveName_1 ?_
  refine s_aload_n o dX11_giveName_4 rfl 0 rfl ?_
  refine r_tgf vI rfl o hT tf_gives tj_gives (lw_all_tbl q2527) dX11_giveName_5 (fun v1 hv1 => ?_)
  refine s_lload_n o dX11_giveName_8 rfl 2 rfl ?_
  refine r_tlast o hT tr_given hv1 hl2 dX11_giveName_9 ?_
  refine s_aload_n o dX11_giveName_10 rfl 0 rfl ?_
  refine s_dup o dX11_giveName_11 (vA_cat (mg Γ) 21) ?_
  refine r_tgf vI rfl o hT tf_gives tj_gives (lw_all_tbl q2527) dX11_giveName_12 (fun v2 hv2 => ?_)
  refine s_iconst o dX11_giveName_15 ?_
  refine s_iadd o dX11_giveName_16 ?_
  refine r_tpf vI rfl o hT tf_gives tj_gives (lw_all_tbl q2527) dX11_giveName_17 (w32_R _) ty_int ?_
  refine s_aload_n o dX11_giveName_20 rfl 0 rfl ?_
  refine s_tga (x := 33) o hT tf_giveCounts ta_giveCounts (lw_all_tbl q2526) dX11_giveName_21 ?_
  refine s_iload_n o dX11_giveName_24 rfl 1 rfl ?_
  refine s_dup2 o dX11_giveName_25 rfl (vA_cat (mg Γ) 33) ?_
  refine r_tiald o hT tr_giveCounts hl1 dX11_giveName_26 (fun v3 hv3 => ?_)
  refine s_iconst o dX11_giveName_27 ?_
  refine s_iadd o dX11_giveName_28 ?_
  refine r_tiast o hT tr_giveCounts hl1 (w32_R _) dX11_giveName_29 ?_
  exact s_vret o rfl dX11_giveName_30 (fun _ hh => hh)
theorem dX11_pile_0 : decode cX11_pile 0 = .ok (.aload_n 0, 1) := by decide +kernel
theorem dX11_pile_1 : decode cX11_pile 1 = .ok (.getfield 65, 3) := by decide +kernel
theorem dX11_pile_4 : decode cX11_pile 4 = .ok (.aload_n 0, 1) := by decide +kernel
theorem dX11_pile_5 : decode cX11_pile 5 = .ok (.getfield 342, 3) := by decide +kernel
theorem dX11_pile_8 : decode cX11_pile 8 = .ok (.iload_n 1, 1) := by decide +kernel
theorem dX11_pile_9 : decode cX11_pile 9 = .ok (.iastore, 1) := by decide +kernel
theorem dX11_pile_10 : decode cX11_pile 10 = .ok (.aload_n 0, 1) := by decide +kernel
theorem dX11_pile_11 : decode cX11_pile 11 = .ok (.getfield 68, 3) := by decide +kernel
theorem dX11_pile_14 : decode cX11_pile 14 = .ok (.aload_n 0, 1) := by decide +kernel
theorem dX11_pile_15 : decode cX11_pile 15 = .ok (.getfield 342, 3) := by decide +kernel
theorem dX11_pile_18 : decode cX11_pile 18 = .ok (.iload_n 2, 1) := by decide +kernel
theorem dX11_pile_19 : decode cX11_pile 19 = .ok (.iastore, 1) := by decide +kernel
theorem dX11_pile_20 : decode cX11_pile 20 = .ok (.aload_n 0, 1) := by decide +kernel
theorem dX11_pile_21 : decode cX11_pile 21 = .ok (.getfield 71, 3) := by decide +kernel
theorem dX11_pile_24 : decode cX11_pile 24 = .ok (.aload_n 0, 1) := by decide +kernel
theorem dX11_pile_25 : decode cX11_pile 25 = .ok (.getfield 342, 3) := by decide +kernel
theorem dX11_pile_28 : decode cX11_pile 28 = .ok (.iload_n 3, 1) := by decide +kernel
theorem dX11_pile_29 : decode cX11_pile 29 = .ok (.iastore, 1) := by decide +kernel
theorem dX11_pile_30 : decode cX11_pile 30 = .ok (.aload_n 0, 1) := by decide +kernel
theorem dX11_pile_31 : decode cX11_pile 31 = .ok (.getfield 74, 3) := by decide +kernel
theorem dX11_pile_34 : decode cX11_pile 34 = .ok (.aload_n 0, 1) := by decide +kernel
theorem dX11_pile_35 : decode cX11_pile 35 = .ok (.getfield 342, 3) := by decide +kernel
theorem dX11_pile_38 : decode cX11_pile 38 = .ok (.iconst 0, 1) := by decide +kernel
theorem dX11_pile_39 : decode cX11_pile 39 = .ok (.iastore, 1) := by decide +kernel
theorem dX11_pile_40 : decode cX11_pile 40 = .ok (.aload_n 0, 1) := by decide +kernel
theorem dX11_pile_41 : decode cX11_pile 41 = .ok (.dup, 1) := by decide +kernel
theorem dX11_pile_42 : decode cX11_pile 42 = .ok (.getfield 342, 3) := by decide +kernel
theorem dX11_pile_45 : decode cX11_pile 45 = .ok (.iconst 1, 1) := by decide +kernel
theorem dX11_pile_46 : decode cX11_pile 46 = .ok (.iadd, 1) := by decide +kernel
theorem dX11_pile_47 : decode cX11_pile 47 = .ok (.putfield 342, 3) := by decide +kernel
theorem dX11_pile_50 : decode cX11_pile 50 = .ok (.return_, 1) := by decide +kernel
theorem mw_X11_pile : MW yX11_pile (Cond.code yX11_pile cX11_pile 4 (Option.none : Option Jvm.ClassFile.FieldType)) cX11_pile 4 (Option.none : Option Jvm.ClassFile.FieldType) 3 := ⟨rfl, ⟨(lw_all_tbl q3022), rfl, (lw_all_tbl q173)⟩, rfl, ⟨by decide, by decide⟩, by decide +kernel⟩
noncomputable def t_pile (l1 : Int) (l2 : Int) (l3 : Int) : Mo TS Int :=
  bnd (gs 35) fun v1 =>
  bnd (wr 36 3200 v1 l1) fun _ =>
  bnd (gs 35) fun v2 =>
  bnd (wr 37 3200 v2 l2) fun _ =>
  bnd (gs 35) fun v3 =>
  bnd (wr 38 3200 v3 l3) fun _ =>
  bnd (gs 35) fun v4 =>
  bnd (wr 39 3200 v4 0) fun _ =>
  bnd (gs 35) fun v5 =>
  bnd (ss 35 (w32 (v5 + 1))) fun _ =>
  pr 0
theorem st_pile (g : gC) (d : Nat) (h : CH) (hT : HT h) (l1 : Int) (l2 : Int) (l3 : Int) (hl1 : R32 l1) (hl2 : R32 l2) (hl3 : R32 l3) : SF g yX11_pile (Cond.code yX11_pile cX11_pile 4 (Option.none : Option Jvm.ClassFile.FieldType)) (Option.none : Option Jvm.ClassFile.FieldType) (d + 0) [vA g 21, vI l1, vI l2, vI l3] (fun t => (h, t)) (t_pile l1 l2 l3) := by
  refine SF.of (lv := [(0, vA g 21), (1, vI l1), (2, vI l2), (3, vI l3)]) (by decide) (wt_A (wt_I (wt_I (wt_I wt_0)))) rfl (by simp only [la_A, la_I, la_J, la_0]) (fun Γ hg hnm o => ?_)
  subst hg
  have o : Ok Γ "LazyForgeModel" cX11_pile 4 (Option.none : Option Jvm.ClassFile.FieldType) (d + 0) := o
  unfold t_pile
  refine s_aload_n o dX11_pile_0 rfl 0 rfl ?_
  refine s_tga (x := 40) o hT tf_pileKinds ta_pileKinds (lw_all_tbl q2540) dX11_pile_1 ?_
  refine s_aload_n o dX11_pile_4 rfl 0 rfl ?_
  refine r_tgf vI rfl o hT tf_piled tj_piled (lw_all_tbl q2539) dX11_pile_5 (fun v1 hv1 => ?_)
  refine s_iload_n o dX11_pile_8 rfl 1 rfl ?_
  refine r_tiast o hT tr_pileKinds hv1 hl1 dX11_pile_9 ?_
  refine s_aload_n o dX11_pile_10 rfl 0 rfl ?_
  refine s_tga (x := 41) o hT tf_pileNodes ta_pileNodes (lw_all_tbl q2541) dX11_pile_11 ?_
  refine s_aload_n o dX11_pile_14 rfl 0 rfl ?_
  refine r_tgf vI rfl o hT tf_piled tj_piled (lw_all_tbl q2539) dX11_pile_15 (fun v2 hv2 => ?_)
  refine s_iload_n o dX11_pile_18 rfl 2 rfl ?_
  refine r_tiast o hT tr_pileNodes hv2 hl2 dX11_pile_19 ?_
  refine s_aload_n o dX11_pile_20 rfl 0 rfl ?_
  refine s_tga (x := 42) o hT tf_pileRanks ta_pileRanks (lw_all_tbl q2542) dX11_pile_21 ?_
  refine s_aload_n o dX11_pile_24 rfl 0 rfl ?_
  refine r_tgf vI rfl o hT tf_piled tj_piled (lw_all_tbl q2539) dX11_pile_25 (fun v3 hv3 => ?_)
  refine s_iload_n o dX11_pile_28 rfl 3 rfl ?_
  refine r_tiast o hT tr_pileRanks hv3 hl3 dX11_pile_29 ?_
  refine s_aload_n o dX11_pile_30 rfl 0 rfl ?_
  refine s_tga (x := 43) o hT tf_pileCounts ta_pileCounts (lw_all_tbl q2543) dX11_pile_31 ?_
  refine s_aload_n o dX11_pile_34 rfl 0 rfl ?_
  refine r_tgf vI rfl o hT tf_piled tj_piled (lw_all_tbl q2539) dX11_pile_35 (fun v4 hv4 => ?_)
  refine s_iconst o dX11_pile_38 ?_
  refine r_tiast o hT tr_pileCounts hv4 (r32 rfl) dX11_pile_39 ?_
  refine s_aload_n o dX11_pile_40 rfl 0 rfl ?_
  refine s_dup o dX11_pile_41 (vA_cat (mg Γ) 21) ?_
  refine r_tgf vI rfl o hT tf_piled tj_piled (lw_all_tbl q2539) dX11_pile_42 (fun v5 hv5 => ?_)
  refine s_iconst o dX11_pile_45 ?_
  refine s_iadd o dX11_pile_46 ?_
  refine r_tpf vI rfl o hT tf_piled tj_piled (lw_all_tbl q2539) dX11_pile_47 (w32_R _) ty_int ?_
  exact s_vret o rfl dX11_pile_50 (fun _ hh => hh)
theorem dX11_append_0 : decode cX11_append 0 = .ok (.aload_n 0, 1) := by decide +kernel
theorem dX11_append_1 : decode cX11_append 1 = .ok (.getfield 19, 3) := by decide +kernel
theorem dX11_append_4 : decode cX11_append 4 = .ok (.iload_n 1, 1) := by decide +kernel
theorem dX11_append_5 : decode cX11_append 5 = .ok (.iaload, 1) := by decide +kernel
theorem dX11_append_6 : decode cX11_append 6 = .ok (.ifCond .ge 13, 3) := by decide +kernel
theorem dX11_append_9 : decode cX11_append 9 = .ok (.aload_n 0, 1) := by decide +kernel
theorem dX11_append_10 : decode cX11_append 10 = .ok (.getfield 19, 3) := by decide +kernel
theorem dX11_append_13 : decode cX11_append 13 = .ok (.iload_n 1, 1) := by decide +kernel
theorem dX11_append_14 : decode cX11_append 14 = .ok (.iload_n 2, 1) := by decide +kernel
theorem dX11_append_15 : decode cX11_append 15 = .ok (.iastore, 1) := by decide +kernel
theorem dX11_append_16 : decode cX11_append 16 = .ok (.goto 15, 3) := by decide +kernel
theorem dX11_append_19 : decode cX11_append 19 = .ok (.aload_n 0, 1) := by decide +kernel
theorem dX11_append_20 : decode cX11_append 20 = .ok (.getfield 25, 3) := by decide +kernel
theorem dX11_append_23 : decode cX11_append 23 = .ok (.aload_n 0, 1) := by decide +kernel
theorem dX11_append_24 : decode cX11_append 24 = .ok (.getfield 22, 3) := by decide +kernel
theorem dX11_append_27 : decode cX11_append 27 = .ok (.iload_n 1, 1) := by decide +kernel
theorem dX11_append_28 : decode cX11_append 28 = .ok (.iaload, 1) := by decide +kernel
theorem dX11_append_29 : decode cX11_append 29 = .ok (.iload_n 2, 1) := by decide +kernel
theorem dX11_append_30 : decode cX11_append 30 = .ok (.iastore, 1) := by decide +kernel
theorem dX11_append_31 : decode cX11_append 31 = .ok (.aload_n 0, 1) := by decide +kernel
theorem dX11_append_32 : decode cX11_append 32 = .ok (.getfield 22, 3) := by decide +kernel
theorem dX11_append_35 : decode cX11_append 35 = .ok (.iload_n 1, 1) := by decide +kernel
theorem dX11_append_36 : decode cX11_append 36 = .ok (.iload_n 2, 1) := by decide +kernel
theorem dX11_append_37 : decode cX11_append 37 = .ok (.iastore, 1) := by decide +kernel
theorem dX11_append_38 : decode cX11_append 38 = .ok (.return_, 1) := by decide +kernel
theorem mw_X11_append : MW yX11_append (Cond.code yX11_append cX11_append 3 (Option.none : Option Jvm.ClassFile.FieldType)) cX11_append 3 (Option.none : Option Jvm.ClassFile.FieldType) 2 := ⟨rfl, ⟨(lw_all_tbl q3042), rfl, (lw_all_tbl q173)⟩, rfl, ⟨by decide, by decide⟩, by decide +kernel⟩
noncomputable def t_append_31  (l1 : Int) (l2 : Int) : Mo TS Int :=
  bnd (wr 15 3200 l1 l2) fun _ =>
  pr 0
theorem st_append_31 {Γ : Gm} {h : CH} {d : Nat} (hT : HT h) (o : Ok Γ "LazyForgeModel" cX11_append 3 (Option.none : Option Jvm.ClassFile.FieldType) (d + 0))   (l1 : Int) (l2 : Int) (hl1 : R32 l1) (hl2 : R32 l2) : Sx Γ (fun t => (h, t)) (fun a s => mt Γ = (0, a, ((h, s) : Wd))) 31 [(0, vA (mg Γ) 21), (1, vI l1), (2, vI l2)] [] (t_append_31 l1 l2) := by
  unfold t_append_31
  refine s_aload_n o dX11_append_31 rfl 0 rfl ?_
  refine s_tga (x := 26) o hT tf_seconds ta_seconds (lw_all_tbl q2519) dX11_append_32 ?_
  refine s_iload_n o dX11_append_35 rfl 1 rfl ?_
  refine s_iload_n o dX11_append_36 rfl 2 rfl ?_
  refine r_tiast o hT tr_seconds hl1 hl2 dX11_append_37 ?_
  exact s_vret o rfl dX11_append_38 (fun _ hh => hh)
noncomputable def t_append (l1 : Int) (l2 : Int) : Mo TS Int :=
  bnd (rd 14 3200 l1) fun v1 =>
  if 0 ≤ v1 then
    bnd (rd 15 3200 l1) fun v2 =>
    bnd (wr 16 3200 v2 l2) fun _ =>
    t_append_31 l1 l2
  else
    bnd (wr 14 3200 l1 l2) fun _ =>
    t_append_31 l1 l2
theorem st_append (g : gC) (d : Nat) (h : CH) (hT : HT h) (l1 : Int) (l2 : Int) (hl1 : R32 l1) (hl2 : R32 l2) : SF g yX11_append (Cond.code yX11_append cX11_append 3 (Option.none : Option Jvm.ClassFile.FieldType)) (Option.none : Option Jvm.ClassFile.FieldType) (d + 0) [vA g 21, vI l1, vI l2] (fun t => (h, t)) (t_append l1 l2) := by
  refine SF.of (lv := [(0, vA g 21), (1, vI l1), (2, vI l2)]) (by decide) (wt_A (wt_I (wt_I wt_0))) rfl (by simp only [la_A, la_I, la_J, la_0]) (fun Γ hg hnm o => ?_)
  subst hg
  have o : Ok Γ "LazyForgeModel" cX11_append 3 (Option.none : Option Jvm.ClassFile.FieldType) (d + 0) := o
  unfold t_append
  refine s_aload_n o dX11_append_0 rfl 0 rfl ?_
  refine s_tga (x := 25) o hT tf_firsts ta_firsts (lw_all_tbl q2518) dX11_append_1 ?_
  refine s_iload_n o dX11_append_4 rfl 1 rfl ?_
  refine r_tiald o hT tr_firsts hl1 dX11_append_5 (fun v1 hv1 => ?_)
  refine s_if_ge (tgt := 19) o dX11_append_6 (by decide) hv1 ?_ ?_
  · refine s_aload_n o dX11_append_19 rfl 0 rfl ?_
    refine s_tga (x := 27) o hT tf_nexts ta_nexts (lw_all_tbl q2520) dX11_append_20 ?_
    refine s_aload_n o dX11_append_23 rfl 0 rfl ?_
    refine s_tga (x := 26) o hT tf_seconds ta_seconds (lw_all_tbl q2519) dX11_append_24 ?_
    refine s_iload_n o dX11_append_27 rfl 1 rfl ?_
    refine r_tiald o hT tr_seconds hl1 dX11_append_28 (fun v2 hv2 => ?_)
    refine s_iload_n o dX11_append_29 rfl 2 rfl ?_
    refine r_tiast o hT tr_nexts hv2 hl2 dX11_append_30 ?_
    exact st_append_31 hT o l1 l2 hl1 hl2
  · refine s_aload_n o dX11_append_9 rfl 0 rfl ?_
    refine s_tga (x := 25) o hT tf_firsts ta_firsts (lw_all_tbl q2518) dX11_append_10 ?_
    refine s_iload_n o dX11_append_13 rfl 1 rfl ?_
    refine s_iload_n o dX11_append_14 rfl 2 rfl ?_
    refine r_tiast o hT tr_firsts hl1 hl2 dX11_append_15 ?_
    refine s_goto (tgt := 31) o dX11_append_16 (by decide) ?_
    exact st_append_31 hT o l1 l2 hl1 hl2
theorem dX11_operand_0 : decode cX11_operand 0 = .ok (.aload_n 0, 1) := by decide +kernel
theorem dX11_operand_1 : decode cX11_operand 1 = .ok (.getfield 77, 3) := by decide +kernel
theorem dX11_operand_4 : decode cX11_operand 4 = .ok (.aload_n 0, 1) := by decide +kernel
theorem dX11_operand_5 : decode cX11_operand 5 = .ok (.getfield 345, 3) := by decide +kernel
theorem dX11_operand_8 : decode cX11_operand 8 = .ok (.iload_n 1, 1) := by decide +kernel
theorem dX11_operand_9 : decode cX11_operand 9 = .ok (.iastore, 1) := by decide +kernel
theorem dX11_operand_10 : decode cX11_operand 10 = .ok (.aload_n 0, 1) := by decide +kernel
theorem dX11_operand_11 : decode cX11_operand 11 = .ok (.dup, 1) := by decide +kernel
theorem dX11_operand_12 : decode cX11_operand 12 = .ok (.getfield 345, 3) := by decide +kernel
theorem dX11_operand_15 : decode cX11_operand 15 = .ok (.iconst 1, 1) := by decide +kernel
theorem dX11_operand_16 : decode cX11_operand 16 = .ok (.iadd, 1) := by decide +kernel
theorem dX11_operand_17 : decode cX11_operand 17 = .ok (.putfield 345, 3) := by decide +kernel
theorem dX11_operand_20 : decode cX11_operand 20 = .ok (.return_, 1) := by decide +kernel
theorem mw_X11_operand : MW yX11_operand (Cond.code yX11_operand cX11_operand 2 (Option.none : Option Jvm.ClassFile.FieldType)) cX11_operand 2 (Option.none : Option Jvm.ClassFile.FieldType) 1 := ⟨rfl, ⟨(lw_all_tbl q3070), rfl, (lw_all_tbl q173)⟩, rfl, ⟨by decide, by decide⟩, by decide +kernel⟩
noncomputable def t_operand (l1 : Int) : Mo TS Int :=
  bnd (gs 40) fun v1 =>
  bnd (wr 41 3200 v1 l1) fun _ =>
  bnd (gs 40) fun v2 =>
  bnd (ss 40 (w32 (v2 + 1))) fun _ =>
  pr 0
theorem st_operand (g : gC) (d : Nat) (h : CH) (hT : HT h) (l1 : Int) (hl1 : R32 l1) : SF g yX11_operand (Cond.code yX11_operand cX11_operand 2 (Option.none : Option Jvm.ClassFile.FieldType)) (Option.none : Option Jvm.ClassFile.FieldType) (d + 0) [vA g 21, vI l1] (fun t => (h, t)) (t_operand l1) := by
  refine SF.of (lv := [(0, vA g 21), (1, vI l1)]) (by decide) (wt_A (wt_I wt_0)) rfl (by simp only [la_A, la_I, la_J, la_0]) (fun Γ hg hnm o => ?_)
  subst hg
  have o : Ok Γ "LazyForgeModel" cX11_operand 2 (Option.none : Option Jvm.ClassFile.FieldType) (d + 0) := o
  unfold t_operand
  refine s_aload_n o dX11_operand_0 rfl 0 rfl ?_
  refine s_tga (x := 44) o hT tf_operandNodes ta_operandNodes (lw_all_tbl q2545) dX11_operand_1 ?_
  refine s_aload_n o dX11_operand_4 rfl 0 rfl ?_
  refine r_tgf vI rfl o hT tf_operands tj_operands (lw_all_tbl q2544) dX11_operand_5 (fun v1 hv1 => ?_)
  refine s_iload_n o dX11_operand_8 rfl 1 rfl ?_
  refine r_tiast o hT tr_operandNodes hv1 hl1 dX11_operand_9 ?_
  refine s_aload_n o dX11_operand_10 rfl 0 rfl ?_
  refine s_dup o dX11_operand_11 (vA_cat (mg Γ) 21) ?_
  refine r_tgf vI rfl o hT tf_operands tj_operands (lw_all_tbl q2544) dX11_operand_12 (fun v2 hv2 => ?_)
  refine s_iconst o dX11_operand_15 ?_
  refine s_iadd o dX11_operand_16 ?_
  refine r_tpf vI rfl o hT tf_operands tj_operands (lw_all_tbl q2544) dX11_operand_17 (w32_R _) ty_int ?_
  exact s_vret o rfl dX11_operand_20 (fun _ hh => hh)
theorem dX11_taken_0 : decode cX11_taken 0 = .ok (.aload_n 0, 1) := by decide +kernel
theorem dX11_taken_1 : decode cX11_taken 1 = .ok (.dup, 1) := by decide +kernel
theorem dX11_taken_2 : decode cX11_taken 2 = .ok (.getfield 345, 3) := by decide +kernel
theorem dX11_taken_5 : decode cX11_taken 5 = .ok (.iconst 1, 1) := by decide +kernel
theorem dX11_taken_6 : decode cX11_taken 6 = .ok (.isub, 1) := by decide +kernel
theorem dX11_taken_7 : decode cX11_taken 7 = .ok (.putfield 345, 3) := by decide +kernel
theorem dX11_taken_10 : decode cX11_taken 10 = .ok (.aload_n 0, 1) := by decide +kernel
theorem dX11_taken_11 : decode cX11_taken 11 = .ok (.getfield 77, 3) := by decide +kernel
theorem dX11_taken_14 : decode cX11_taken 14 = .ok (.aload_n 0, 1) := by decide +kernel
theorem dX11_taken_15 : decode cX11_taken 15 = .ok (.getfield 345, 3) := by decide +kernel
theorem dX11_taken_18 : decode cX11_taken 18 = .ok (.iaload, 1) := by decide +kernel
theorem dX11_taken_19 : decode cX11_taken 19 = .ok (.ireturn, 1) := by decide +kernel
theorem mw_X11_taken : MW yX11_taken (Cond.code yX11_taken cX11_taken 1 (Option.some Jvm.ClassFile.FieldType.int)) cX11_taken 1 (Option.some Jvm.ClassFile.FieldType.int) 0 := ⟨rfl, ⟨(lw_all_tbl q3078), rfl, (lw_all_tbl q173)⟩, rfl, ⟨by decide, by decide⟩, by decide +kernel⟩
noncomputable def t_taken : Mo TS Int :=
  bnd (gs 40) fun v1 =>
  bnd (ss 40 (w32 (v1 - 1))) fun _ =>
  bnd (gs 40) fun v2 =>
  bnd (rd 41 3200 v2) fun v3 =>
  pr v3
theorem st_taken (g : gC) (d : Nat) (h : CH) (hT : HT h) : SF g yX11_taken (Cond.code yX11_taken cX11_taken 1 (Option.some Jvm.ClassFile.FieldType.int)) (Option.some Jvm.ClassFile.FieldType.int) (d + 0) [vA g 21] (fun t => (h, t)) (t_taken) := by
  refine SF.of (lv := [(0, vA g 21)]) (by decide) (wt_A wt_0) rfl (by simp only [la_A, la_I, la_J, la_0]) (fun Γ hg hnm o => ?_)
  subst hg
  have o : Ok Γ "LazyForgeModel" cX11_taken 1 (Option.some Jvm.ClassFile.FieldType.int) (d + 0) := o
  unfold t_taken
  refine s_aload_n o dX11_taken_0 rfl 0 rfl ?_
  refine s_dup o dX11_taken_1 (vA_cat (mg Γ) 21) ?_
  refine r_tgf vI rfl o hT tf_operands tj_operands (lw_all_tbl q2544) dX11_taken_2 (fun v1 hv1 => ?_)
  refine s_iconst o dX11_taken_5 ?_
  refine s_isub o dX11_taken_6 ?_
  refine r_tpf vI rfl o hT tf_operands tj_operands (lw_all_tbl q2544) dX11_taken_7 (w32_R _) ty_int ?_
  refine s_aload_n o dX11_taken_10 rfl 0 rfl ?_
  refine s_tga (x := 44) o hT tf_operandNodes ta_operandNodes (lw_all_tbl q2545) dX11_taken_11 ?_
  refine s_aload_n o dX11_taken_14 rfl 0 rfl ?_
  refine r_tgf vI rfl o hT tf_operands tj_operands (lw_all_tbl q2544) dX11_taken_15 (fun v2 hv2 => ?_)
  refine r_tiald o hT tr_operandNodes hv2 dX11_taken_18 (fun v3 hv3 => ?_)
  exact s_iret o rfl i_int hv3 dX11_taken_19 (fun _ hh => hh)
theorem dX11_rank_0 : decode cX11_rank 0 = .ok (.iload_n 0, 1) := by decide +kernel
theorem dX11_rank_1 : decode cX11_rank 1 = .ok (.lookupswitch 81 #[(21, 75), (22, 75), (137, 79), (142, 79), (143, 77), (145, 77), (147, 79), (160, 75)], 75) := by decide +kernel
theorem dX11_rank_76 : decode cX11_rank 76 = .ok (.iconst 1, 1) := by decide +kernel
theorem dX11_rank_77 : decode cX11_rank 77 = .ok (.ireturn, 1) := by decide +kernel
theorem dX11_rank_78 : decode cX11_rank 78 = .ok (.iconst 2, 1) := by decide +kernel
theorem dX11_rank_79 : decode cX11_rank 79 = .ok (.ireturn, 1) := by decide +kernel
theorem dX11_rank_80 : decode cX11_rank 80 = .ok (.iconst 3, 1) := by decide +kernel
theorem dX11_rank_81 : decode cX11_rank 81 = .ok (.ireturn, 1) := by decide +kernel
theorem dX11_rank_82 : decode cX11_rank 82 = .ok (.iconst 0, 1) := by decide +kernel
theorem dX11_rank_83 : decode cX11_rank 83 = .ok (.ireturn, 1) := by decide +kernel
theorem mw_X11_rank : MW yX11_rank (Cond.code yX11_rank cX11_rank 1 (Option.some Jvm.ClassFile.FieldType.int)) cX11_rank 1 (Option.some Jvm.ClassFile.FieldType.int) 1 := ⟨rfl, ⟨(lw_all_tbl q3081), rfl, (lw_all_tbl q173)⟩, rfl, ⟨by decide, by decide⟩, by decide +kernel⟩
noncomputable def t_rank (l0 : Int) : Mo TS Int :=
  if l0 = 21 then
    pr 1
  else
    if l0 = 22 then
      pr 1
    else
      if l0 = 137 then
        pr 3
      else
        if l0 = 142 then
          pr 3
        else
          if l0 = 143 then
            pr 2
          else
            if l0 = 145 then
              pr 2
            else
              if l0 = 147 then
                pr 3
              else
                if l0 = 160 then
                  pr 1
                else
                  pr 0
theorem st_rank (g : gC) (d : Nat) (h : CH) (l0 : Int) (hl0 : R32 l0) : SF g yX11_rank (Cond.code yX11_rank cX11_rank 1 (Option.some Jvm.ClassFile.FieldType.int)) (Option.some Jvm.ClassFile.FieldType.int) (d + 0) [vI l0] (fun t => (h, t)) (t_rank l0) := by
  refine SF.of (lv := [(0, vI l0)]) (by decide) (wt_I wt_0) rfl (by simp only [la_A, la_I, la_J, la_0]) (fun Γ hg hnm o => ?_)
  subst hg
  have o : Ok Γ "LazyForgeModel" cX11_rank 1 (Option.some Jvm.ClassFile.FieldType.int) (d + 0) := o
  unfold t_rank
  refine s_iload_n o dX11_rank_0 rfl 0 rfl ?_
  refine s_case (P := True) (fun e0 => ?_) (fun e0 => ?_)
  · refine s_lookE o e0 dX11_rank_1 (r32 rfl) rfl rfl (tgt := 76) (by decide) ?_
    refine s_iconst o dX11_rank_76 ?_
    exact s_iret o rfl i_int (r32 rfl) dX11_rank_77 (fun _ hh => hh)
  · refine s_case (P := True) (fun e1 => ?_) (fun e1 => ?_)
    · refine s_lookE o e1 dX11_rank_1 (r32 rfl) rfl rfl (tgt := 76) (by decide) ?_
      refine s_iconst o dX11_rank_76 ?_
      exact s_iret o rfl i_int (r32 rfl) dX11_rank_77 (fun _ hh => hh)
    · refine s_case (P := True) (fun e2 => ?_) (fun e2 => ?_)
      · refine s_lookE o e2 dX11_rank_1 (r32 rfl) rfl rfl (tgt := 80) (by decide) ?_
        refine s_iconst o dX11_rank_80 ?_
        exact s_iret o rfl i_int (r32 rfl) dX11_rank_81 (fun _ hh => hh)
      · refine s_case (P := True) (fun e3 => ?_) (fun e3 => ?_)
        · refine s_lookE o e3 dX11_rank_1 (r32 rfl) rfl rfl (tgt := 80) (by decide) ?_
          refine s_iconst o dX11_rank_80 ?_
          exact s_iret o rfl i_int (r32 rfl) dX11_rank_81 (fun _ hh => hh)
        · refine s_case (P := True) (fun e4 => ?_) (fun e4 => ?_)
          · refine s_lookE o e4 dX11_rank_1 (r32 rfl) rfl rfl (tgt := 78) (by decide) ?_
            refine s_iconst o dX11_rank_78 ?_
            exact s_iret o rfl i_int (r32 rfl) dX11_rank_79 (fun _ hh => hh)
          · refine s_case (P := True) (fun e5 => ?_) (fun e5 => ?_)
            · refine s_lookE o e5 dX11_rank_1 (r32 rfl) rfl rfl (tgt := 78) (by decide) ?_
              refine s_iconst o dX11_rank_78 ?_
              exact s_iret o rfl i_int (r32 rfl) dX11_rank_79 (fun _ hh => hh)
            · refine s_case (P := True) (fun e6 => ?_) (fun e6 => ?_)
              · refine s_lookE o e6 dX11_rank_1 (r32 rfl) rfl rfl (tgt := 80) (by decide) ?_
                refine s_iconst o dX11_rank_80 ?_
                exact s_iret o rfl i_int (r32 rfl) dX11_rank_81 (fun _ hh => hh)
              · refine s_case (P := True) (fun e7 => ?_) (fun e7 => ?_)
                · refine s_lookE o e7 dX11_rank_1 (r32 rfl) rfl rfl (tgt := 76) (by decide) ?_
                  refine s_iconst o dX11_rank_76 ?_
                  exact s_iret o rfl i_int (r32 rfl) dX11_rank_77 (fun _ hh => hh)
                · refine s_look (off := 81) o dX11_rank_1 hl0 rfl (by simp [Op.lookupswitch.offset, Ne.symm e0, Ne.symm e1, Ne.symm e2, Ne.symm e3, Ne.symm e4, Ne.symm e5, Ne.symm e6, Ne.symm e7, e0, e1, e2, e3, e4, e5, e6, e7]) (tgt := 82) (by decide) ?_
                  refine s_iconst o dX11_rank_82 ?_
                  exact s_iret o rfl i_int (r32 rfl) dX11_rank_83 (fun _ hh => hh)
theorem dX11_numberAll_0 : decode cX11_numberAll 0 = .ok (.aload_n 0, 1) := by decide +kernel
theorem dX11_numberAll_1 : decode cX11_numberAll 1 = .ok (.aload_n 0, 1) := by decide +kernel
theorem dX11_numberAll_2 : decode cX11_numberAll 2 = .ok (.getfield 462, 3) := by decide +kernel
theorem dX11_numberAll_5 : decode cX11_numberAll 5 = .ok (.putfield 486, 3) := by decide +kernel
theorem dX11_numberAll_8 : decode cX11_numberAll 8 = .ok (.iconst 0, 1) := by decide +kernel
theorem dX11_numberAll_9 : decode cX11_numberAll 9 = .ok (.istore_n 1, 1) := by decide +kernel
theorem dX11_numberAll_10 : decode cX11_numberAll 10 = .ok (.iload_n 1, 1) := by decide +kernel
theorem dX11_numberAll_11 : decode cX11_numberAll 11 = .ok (.aload_n 0, 1) := by decide +kernel
theorem dX11_numberAll_12 : decode cX11_numberAll 12 = .ok (.getfield 327, 3) := by decide +kernel
theorem dX11_numberAll_15 : decode cX11_numberAll 15 = .ok (.if_icmp .ge 90, 3) := by decide +kernel
theorem dX11_numberAll_18 : decode cX11_numberAll 18 = .ok (.aload_n 0, 1) := by decide +kernel
theorem dX11_numberAll_19 : decode cX11_numberAll 19 = .ok (.getfield 80, 3) := by decide +kernel
theorem dX11_numberAll_22 : decode cX11_numberAll 22 = .ok (.iload_n 1, 1) := by decide +kernel
theorem dX11_numberAll_23 : decode cX11_numberAll 23 = .ok (.iconst (-1), 1) := by decide +kernel
theorem dX11_numberAll_24 : decode cX11_numberAll 24 = .ok (.iastore, 1) := by decide +kernel
theorem dX11_numberAll_25 : decode cX11_numberAll 25 = .ok (.aload_n 0, 1) := by decide +kernel
theorem dX11_numberAll_26 : decode cX11_numberAll 26 = .ok (.getfield 16, 3) := by decide +kernel
theorem dX11_numberAll_29 : decode cX11_numberAll 29 = .ok (.iload_n 1, 1) := by decide +kernel
theorem dX11_numberAll_30 : decode cX11_numberAll 30 = .ok (.iaload, 1) := by decide +kernel
theorem dX11_numberAll_31 : decode cX11_numberAll 31 = .ok (.iconst 2, 1) := by decide +kernel
theorem dX11_numberAll_32 : decode cX11_numberAll 32 = .ok (.if_icmp .eq 22, 3) := by decide +kernel
theorem dX11_numberAll_35 : decode cX11_numberAll 35 = .ok (.aload_n 0, 1) := by decide +kernel
theorem dX11_numberAll_36 : decode cX11_numberAll 36 = .ok (.getfield 16, 3) := by decide +kernel
theorem dX11_numberAll_39 : decode cX11_numberAll 39 = .ok (.iload_n 1, 1) := by decide +kernel
theorem dX11_numberAll_40 : decode cX11_numberAll 40 = .ok (.iaload, 1) := by decide +kernel
theorem dX11_numberAll_41 : decode cX11_numberAll 41 = .ok (.iconst 1, 1) := by decide +kernel
theorem dX11_numberAll_42 : decode cX11_numberAll 42 = .ok (.if_icmp .ne 57, 3) := by decide +kernel
theorem dX11_numberAll_45 : decode cX11_numberAll 45 = .ok (.aload_n 0, 1) := by decide +kernel
theorem dX11_numberAll_46 : decode cX11_numberAll 46 = .ok (.getfield 44, 3) := by decide +kernel
theorem dX11_numberAll_49 : decode cX11_numberAll 49 = .ok (.iload_n 1, 1) := by decide +kernel
theorem dX11_numberAll_50 : decode cX11_numberAll 50 = .ok (.iaload, 1) := by decide +kernel
theorem dX11_numberAll_51 : decode cX11_numberAll 51 = .ok (.ifCond .le 48, 3) := by decide +kernel
theorem dX11_numberAll_54 : decode cX11_numberAll 54 = .ok (.aload_n 0, 1) := by decide +kernel
theorem dX11_numberAll_55 : decode cX11_numberAll 55 = .ok (.getfield 80, 3) := by decide +kernel
theorem dX11_numberAll_58 : decode cX11_numberAll 58 = .ok (.iload_n 1, 1) := by decide +kernel
theorem dX11_numberAll_59 : decode cX11_numberAll 59 = .ok (.aload_n 0, 1) := by decide +kernel
theorem dX11_numberAll_60 : decode cX11_numberAll 60 = .ok (.getfield 486, 3) := by decide +kernel
theorem dX11_numberAll_63 : decode cX11_numberAll 63 = .ok (.iastore, 1) := by decide +kernel
theorem dX11_numberAll_64 : decode cX11_numberAll 64 = .ok (.aload_n 0, 1) := by decide +kernel
theorem dX11_numberAll_65 : decode cX11_numberAll 65 = .ok (.getfield 56, 3) := by decide +kernel
theorem dX11_numberAll_68 : decode cX11_numberAll 68 = .ok (.aload_n 0, 1) := by decide +kernel
theorem dX11_numberAll_69 : decode cX11_numberAll 69 = .ok (.getfield 486, 3) := by decide +kernel
theorem dX11_numberAll_72 : decode cX11_numberAll 72 = .ok (.iload_n 1, 1) := by decide +kernel
theorem dX11_numberAll_73 : decode cX11_numberAll 73 = .ok (.iastore, 1) := by decide +kernel
theorem dX11_numberAll_74 : decode cX11_numberAll 74 = .ok (.aload_n 0, 1) := by decide +kernel
theorem dX11_numberAll_75 : decode cX11_numberAll 75 = .ok (.getfield 53, 3) := by decide +kernel
theorem dX11_numberAll_78 : decode cX11_numberAll 78 = .ok (.aload_n 0, 1) := by decide +kernel
theorem dX11_numberAll_79 : decode cX11_numberAll 79 = .ok (.getfield 486, 3) := by decide +kernel
theorem dX11_numberAll_82 : decode cX11_numberAll 82 = .ok (.aload_n 0, 1) := by decide +kernel
theorem dX11_numberAll_83 : decode cX11_numberAll 83 = .ok (.getfield 28, 3) := by decide +kernel
theorem dX11_numberAll_86 : decode cX11_numberAll 86 = .ok (.iload_n 1, 1) := by decide +kernel
theorem dX11_numberAll_87 : decode cX11_numberAll 87 = .ok (.iaload, 1) := by decide +kernel
theorem dX11_numberAll_88 : decode cX11_numberAll 88 = .ok (.iastore, 1) := by decide +kernel
theorem dX11_numberAll_89 : decode cX11_numberAll 89 = .ok (.aload_n 0, 1) := by decide +kernel
theorem dX11_numberAll_90 : decode cX11_numberAll 90 = .ok (.dup, 1) := by decide +kernel
theorem dX11_numberAll_91 : decode cX11_numberAll 91 = .ok (.getfield 486, 3) := by decide +kernel
theorem dX11_numberAll_94 : decode cX11_numberAll 94 = .ok (.iconst 1, 1) := by decide +kernel
theorem dX11_numberAll_95 : decode cX11_numberAll 95 = .ok (.iadd, 1) := by decide +kernel
theorem dX11_numberAll_96 : decode cX11_numberAll 96 = .ok (.putfield 486, 3) := by decide +kernel
theorem dX11_numberAll_99 : decode cX11_numberAll 99 = .ok (.iinc 1 1, 3) := by decide +kernel
theorem dX11_numberAll_102 : decode cX11_numberAll 102 = .ok (.goto (-92), 3) := by decide +kernel
theorem dX11_numberAll_105 : decode cX11_numberAll 105 = .ok (.iconst 0, 1) := by decide +kernel
theorem dX11_numberAll_106 : decode cX11_numberAll 106 = .ok (.istore_n 1, 1) := by decide +kernel
theorem dX11_numberAll_107 : decode cX11_numberAll 107 = .ok (.iload_n 1, 1) := by decide +kernel
theorem dX11_numberAll_108 : decode cX11_numberAll 108 = .ok (.aload_n 0, 1) := by decide +kernel
theorem dX11_numberAll_109 : decode cX11_numberAll 109 = .ok (.getfield 486, 3) := by decide +kernel
theorem dX11_numberAll_112 : decode cX11_numberAll 112 = .ok (.if_icmp .ge 23, 3) := by decide +kernel
theorem dX11_numberAll_115 : decode cX11_numberAll 115 = .ok (.aload_n 0, 1) := by decide +kernel
theorem dX11_numberAll_116 : decode cX11_numberAll 116 = .ok (.getfield 83, 3) := by decide +kernel
theorem dX11_numberAll_119 : decode cX11_numberAll 119 = .ok (.iload_n 1, 1) := by decide +kernel
theorem dX11_numberAll_120 : decode cX11_numberAll 120 = .ok (.iconst 0, 1) := by decide +kernel
theorem dX11_numberAll_121 : decode cX11_numberAll 121 = .ok (.iastore, 1) := by decide +kernel
theorem dX11_numberAll_122 : decode cX11_numberAll 122 = .ok (.aload_n 0, 1) := by decide +kernel
theorem dX11_numberAll_123 : decode cX11_numberAll 123 = .ok (.getfield 95, 3) := by decide +kernel
theorem dX11_numberAll_126 : decode cX11_numberAll 126 = .ok (.iload_n 1, 1) := by decide +kernel
theorem dX11_numberAll_127 : decode cX11_numberAll 127 = .ok (.iconst 0, 1) := by decide +kernel
theorem dX11_numberAll_128 : decode cX11_numberAll 128 = .ok (.iastore, 1) := by decide +kernel
theorem dX11_numberAll_129 : decode cX11_numberAll 129 = .ok (.iinc 1 1, 3) := by decide +kernel
theorem dX11_numberAll_132 : decode cX11_numberAll 132 = .ok (.goto (-25), 3) := by decide +kernel
theorem dX11_numberAll_135 : decode cX11_numberAll 135 = .ok (.return_, 1) := by decide +kernel
theorem mw_X11_numberAll : MW yX11_numberAll (Cond.code yX11_numberAll cX11_numberAll 2 (Option.none : Option Jvm.ClassFile.FieldType)) cX11_numberAll 2 (Option.none : Option Jvm.ClassFile.FieldType) 0 := ⟨rfl, ⟨(lw_all_tbl q3113), rfl, (lw_all_tbl q173)⟩, rfl, ⟨by decide, by decide⟩, by decide +kernel⟩
abbrev okt_numberAll_107 (x : Int) : Prop := R32 x
abbrev lvt_numberAll_107 (Γ : Gm) (x : Int) : List (Nat × Value) := [(0, vA (mg Γ) 21), (1, vI x)]
noncomputable def t_numberAll_107b {A : Type} (k_135 : Mo TS A) (l1 : Int) : Mo TS ((Int) ⊕ A) :=
  bnd (gs 46) fun v1 =>
  if v1 ≤ l1 then
    lo k_135
  else
    bnd (wr 48 640 l1 0) fun _ =>
    bnd (wr 53 640 l1 0) fun _ =>
    pr (.inl (w32 (l1 + 1)))
theorem st_numberAll_107b {Γ : Gm} {h : CH} {d : Nat} (hT : HT h) (o : Ok Γ "LazyForgeModel" cX11_numberAll 2 (Option.none : Option Jvm.ClassFile.FieldType) (d + 0)) {A : Type} {K : A → TS → Prop} (k_135 : Mo TS A) (hk_135 : Sx Γ (fun t => (h, t)) K 135 [] [] (k_135)) (l1 : Int) (hl1 : R32 l1) : Sx Γ (fun t => (h, t)) (KL Γ (fun t => (h, t)) okt_numberAll_107 K 107 (lvt_numberAll_107 Γ) []) 107 [(0, vA (mg Γ) 21), (1, vI l1)] [] (t_numberAll_107b k_135 l1) := by
  unfold t_numberAll_107b
  refine s_iload_n o dX11_numberAll_107 rfl 1 rfl ?_
  refine s_aload_n o dX11_numberAll_108 rfl 0 rfl ?_
  refine r_tgf vI rfl o hT tf_named tj_named (lw_all_tbl q2550) dX11_numberAll_109 (fun v1 hv1 => ?_)
  refine s_icmp_ge (tgt := 135) o dX11_numberAll_112 (by decide) hl1 hv1 ?_ ?_
  · refine r_to [] [] rfl ?_
    exact s_lo hk_135
  · refine s_aload_n o dX11_numberAll_115 rfl 0 rfl ?_
    refine s_tga (x := 46) o hT tf_freeCounts ta_freeCounts (lw_all_tbl q2552) dX11_numberAll_116 ?_
    refine s_iload_n o dX11_numberAll_119 rfl 1 rfl ?_
    refine s_iconst o dX11_numberAll_120 ?_
    refine r_tiast o hT tr_freeCounts hl1 (r32 rfl) dX11_numberAll_121 ?_
    refine s_aload_n o dX11_numberAll_122 rfl 0 rfl ?_
    refine s_tga (x := 50) o hT tf_ownCounts ta_ownCounts (lw_all_tbl q2557) dX11_numberAll_123 ?_
    refine s_iload_n o dX11_numberAll_126 rfl 1 rfl ?_
    refine s_iconst o dX11_numberAll_127 ?_
    refine r_tiast o hT tr_ownCounts hl1 (r32 rfl) dX11_numberAll_128 ?_
    refine r_iinc (j := 1) o dX11_numberAll_129 rfl rfl [(0, vA (mg Γ) 21)] [0] rfl ⟨(Nat.ne_of_beq_eq_false rfl), (fun _ => (vA_cat (mg Γ) 21)), trivial⟩ ?_
    refine s_goto (tgt := 107) o dX11_numberAll_132 (by decide) ?_
    refine r_to [(0, vA (mg Γ) 21), (1, vI (w32 (l1 + 1)))] [1, 0] rfl ?_
    exact s_back (w32_R _) rfl
noncomputable def t_numberAll_107 {A : Type} (k_135 : Mo TS A) (l1 : Int) : Mo TS A := Loop (fun x => t_numberAll_107b k_135 x) l1
theorem st_numberAll_107 {Γ : Gm} {h : CH} {d : Nat} (hT : HT h) (o : Ok Γ "LazyForgeModel" cX11_numberAll 2 (Option.none : Option Jvm.ClassFile.FieldType) (d + 0)) {A : Type} {K : A → TS → Prop} (k_135 : Mo TS A) (hk_135 : Sx Γ (fun t => (h, t)) K 135 [] [] (k_135)) (l1 : Int) (hl1 : R32 l1) : Sx Γ (fun t => (h, t)) K 107 [(0, vA (mg Γ) 21), (1, vI l1)] [] (t_numberAll_107 k_135 l1) :=
  s_loop okt_numberAll_107 (lvt_numberAll_107 Γ) (fun x hx => st_numberAll_107b hT o k_135 hk_135 x hx) (x := l1) hl1
abbrev okt_numberAll_10 (x : Int) : Prop := R32 x
abbrev lvt_numberAll_10 (Γ : Gm) (x : Int) : List (Nat × Value) := [(0, vA (mg Γ) 21), (1, vI x)]
noncomputable def t_numberAll_99 {A : Type} (k_105 : Mo TS A) (l1 : Int) : Mo TS ((Int) ⊕ A) :=
  pr (.inl (w32 (l1 + 1)))
theorem st_numberAll_99 {Γ : Gm} {h : CH} {d : Nat} (hT : HT h) (o : Ok Γ "LazyForgeModel" cX11_numberAll 2 (Option.none : Option Jvm.ClassFile.FieldType) (d + 0)) {A : Type} {K : A → TS → Prop}  (k_105 : Mo TS A) (hk_105 : Sx Γ (fun t => (h, t)) K 105 [(0, vA (mg Γ) 21)] [] (k_105)) (l1 : Int) (hl1 : R32 l1) : Sx Γ (fun t => (h, t)) (KL Γ (fun t => (h, t)) okt_numberAll_10 K 10 (lvt_numberAll_10 Γ) []) 99 [(0, vA (mg Γ) 21), (1, vI l1)] [] (t_numberAll_99 k_105 l1) := by
  unfold t_numberAll_99
  refine r_iinc (j := 1) o dX11_numberAll_99 rfl rfl [(0, vA (mg Γ) 21)] [0] rfl ⟨(Nat.ne_of_beq_eq_false rfl), (fun _ => (vA_cat (mg Γ) 21)), trivial⟩ ?_
  refine s_goto (tgt := 10) o dX11_numberAll_102 (by decide) ?_
  refine r_to [(0, vA (mg Γ) 21), (1, vI (w32 (l1 + 1)))] [1, 0] rfl ?_
  exact s_back (w32_R _) rfl
noncomputable def t_numberAll_54 {A : Type} (k_105 : Mo TS A) (l1 : Int) : Mo TS ((Int) ⊕ A) :=
  bnd (gs 46) fun v1 =>
  bnd (wr 47 3200 l1 v1) fun _ =>
  bnd (gs 46) fun v2 =>
  bnd (wr 30 640 v2 l1) fun _ =>
  bnd (gs 46) fun v3 =>
  bnd (rd 17 3200 l1) fun v4 =>
  bnd (wr 29 640 v3 v4) fun _ =>
  bnd (gs 46) fun v5 =>
  bnd (ss 46 (w32 (v5 + 1))) fun _ =>
  t_numberAll_99 k_105 l1
theorem st_numberAll_54 {Γ : Gm} {h : CH} {d : Nat} (hT : HT h) (o : Ok Γ "LazyForgeModel" cX11_numberAll 2 (Option.none : Option Jvm.ClassFile.FieldType) (d + 0)) {A : Type} {K : A → TS → Prop}  (k_105 : Mo TS A) (hk_105 : Sx Γ (fun t => (h, t)) K 105 [(0, vA (mg Γ) 21)] [] (k_105)) (l1 : Int) (hl1 : R32 l1) : Sx Γ (fun t => (h, t)) (KL Γ (fun t => (h, t)) okt_numberAll_10 K 10 (lvt_numberAll_10 Γ) []) 54 [(0, vA (mg Γ) 21), (1, vI l1)] [] (t_numberAll_54 k_105 l1) := by
  unfold t_numberAll_54
  refine s_aload_n o dX11_numberAll_54 rfl 0 rfl ?_
  refine s_tga (x := 45) o hT tf_functionOf ta_functionOf (lw_all_tbl q2551) dX11_numberAll_55 ?_
  refine s_iload_n o dX11_numberAll_58 rfl 1 rfl ?_
  refine s_aload_n o dX11_numberAll_59 rfl 0 rfl ?_
  refine r_tgf vI rfl o hT tf_named tj_named (lw_all_tbl q2550) dX11_numberAll_60 (fun v1 hv1 => ?_)
  refine r_tiast o hT tr_functionOf hl1 hv1 dX11_numberAll_63 ?_
  refine s_aload_n o dX11_numberAll_64 rfl 0 rfl ?_
  refine s_tga (x := 37) o hT tf_functionNodes ta_functionNodes (lw_all_tbl q2534) dX11_numberAll_65 ?_
  refine s_aload_n o dX11_numberAll_68 rfl 0 rfl ?_
  refine r_tgf vI rfl o hT tf_named tj_named (lw_all_tbl q2550) dX11_numberAll_69 (fun v2 hv2 => ?_)
  refine s_iload_n o dX11_numberAll_72 rfl 1 rfl ?_
  refine r_tiast o hT tr_functionNodes hv2 hl1 dX11_numberAll_73 ?_
  refine s_aload_n o dX11_numberAll_74 rfl 0 rfl ?_
  refine s_tga (x := 36) o hT tf_functionPlaces ta_functionPlaces (lw_all_tbl q2533) dX11_numberAll_75 ?_
  refine s_aload_n o dX11_numberAll_78 rfl 0 rfl ?_
  refine r_tgf vI rfl o hT tf_named tj_named (lw_all_tbl q2550) dX11_numberAll_79 (fun v3 hv3 => ?_)
  refine s_aload_n o dX11_numberAll_82 rfl 0 rfl ?_
  refine s_tga (x := 28) o hT tf_places ta_places (lw_all_tbl q2521) dX11_numberAll_83 ?_
  refine s_iload_n o dX11_numberAll_86 rfl 1 rfl ?_
  refine r_tiald o hT tr_places hl1 dX11_numberAll_87 (fun v4 hv4 => ?_)
  refine r_tiast o hT tr_functionPlaces hv3 hv4 dX11_numberAll_88 ?_
  refine s_aload_n o dX11_numberAll_89 rfl 0 rfl ?_
  refine s_dup o dX11_numberAll_90 (vA_cat (mg Γ) 21) ?_
  refine r_tgf vI rfl o hT tf_named tj_named (lw_all_tbl q2550) dX11_numberAll_91 (fun v5 hv5 => ?_)
  refine s_iconst o dX11_numberAll_94 ?_
  refine s_iadd o dX11_numberAll_95 ?_
  refine r_tpf vI rfl o hT tf_named tj_named (lw_all_tbl q2550) dX11_numberAll_96 (w32_R _) ty_int ?_
  exact st_numberAll_99 hT o k_105 hk_105 l1 hl1
noncomputable def t_numberAll_10b {A : Type} (k_105 : Mo TS A) (l1 : Int) : Mo TS ((Int) ⊕ A) :=
  bnd (gs 12) fun v1 =>
  if v1 ≤ l1 then
    lo k_105
  else
    bnd (wr 47 3200 l1 (-1)) fun _ =>
    bnd (rd 13 3200 l1) fun v2 =>
    if v2 = 2 then
      t_numberAll_54 k_105 l1
    else
      bnd (rd 13 3200 l1) fun v3 =>
      if ¬ v3 = 1 then
        t_numberAll_99 k_105 l1
      else
        bnd (rd 22 3200 l1) fun v4 =>
        if v4 ≤ 0 then
          t_numberAll_99 k_105 l1
        else
          t_numberAll_54 k_105 l1
theorem st_numberAll_10b {Γ : Gm} {h : CH} {d : Nat} (hT : HT h) (o : Ok Γ "LazyForgeModel" cX11_numberAll 2 (Option.none : Option Jvm.ClassFile.FieldType) (d + 0)) {A : Type} {K : A → TS → Prop} (k_105 : Mo TS A) (hk_105 : Sx Γ (fun t => (h, t)) K 105 [(0, vA (mg Γ) 21)] [] (k_105)) (l1 : Int) (hl1 : R32 l1) : Sx Γ (fun t => (h, t)) (KL Γ (fun t => (h, t)) okt_numberAll_10 K 10 (lvt_numberAll_10 Γ) []) 10 [(0, vA (mg Γ) 21), (1, vI l1)] [] (t_numberAll_10b k_105 l1) := by
  unfold t_numberAll_10b
  refine s_iload_n o dX11_numberAll_10 rfl 1 rfl ?_
  refine s_aload_n o dX11_numberAll_11 rfl 0 rfl ?_
  refine r_tgf vI rfl o hT tf_nodes tj_nodes (lw_all_tbl q2516) dX11_numberAll_12 (fun v1 hv1 => ?_)
  refine s_icmp_ge (tgt := 105) o dX11_numberAll_15 (by decide) hl1 hv1 ?_ ?_
  · refine r_to [(0, vA (mg Γ) 21)] [0] rfl ?_
    exact s_lo hk_105
  · refine s_aload_n o dX11_numberAll_18 rfl 0 rfl ?_
    refine s_tga (x := 45) o hT tf_functionOf ta_functionOf (lw_all_tbl q2551) dX11_numberAll_19 ?_
    refine s_iload_n o dX11_numberAll_22 rfl 1 rfl ?_
    refine s_iconst o dX11_numberAll_23 ?_
    refine r_tiast o hT tr_functionOf hl1 (r32 rfl) dX11_numberAll_24 ?_
    refine s_aload_n o dX11_numberAll_25 rfl 0 rfl ?_
    refine s_tga (x := 24) o hT tf_kinds ta_kinds (lw_all_tbl q2517) dX11_numberAll_26 ?_
    refine s_iload_n o dX11_numberAll_29 rfl 1 rfl ?_
    refine r_tiald o hT tr_kinds hl1 dX11_numberAll_30 (fun v2 hv2 => ?_)
    refine s_iconst o dX11_numberAll_31 ?_
    refine s_icmp_eq (tgt := 54) o dX11_numberAll_32 (by decide) hv2 (r32 rfl) ?_ ?_
    · exact st_numberAll_54 hT o k_105 hk_105 l1 hl1
    · refine s_aload_n o dX11_numberAll_35 rfl 0 rfl ?_
      refine s_tga (x := 24) o hT tf_kinds ta_kinds (lw_all_tbl q2517) dX11_numberAll_36 ?_
      refine s_iload_n o dX11_numberAll_39 rfl 1 rfl ?_
      refine r_tiald o hT tr_kinds hl1 dX11_numberAll_40 (fun v3 hv3 => ?_)
      refine s_iconst o dX11_numberAll_41 ?_
      refine s_icmp_ne (tgt := 99) o dX11_numberAll_42 (by decide) hv3 (r32 rfl) ?_ ?_
      · exact st_numberAll_99 hT o k_105 hk_105 l1 hl1
      · refine s_aload_n o dX11_numberAll_45 rfl 0 rfl ?_
        refine s_tga (x := 33) o hT tf_giveCounts ta_giveCounts (lw_all_tbl q2526) dX11_numberAll_46 ?_
        refine s_iload_n o dX11_numberAll_49 rfl 1 rfl ?_
        refine r_tiald o hT tr_giveCounts hl1 dX11_numberAll_50 (fun v4 hv4 => ?_)
        refine s_if_le (tgt := 99) o dX11_numberAll_51 (by decide) hv4 ?_ ?_
        · exact st_numberAll_99 hT o k_105 hk_105 l1 hl1
        · exact st_numberAll_54 hT o k_105 hk_105 l1 hl1
noncomputable def t_numberAll_10 {A : Type} (k_105 : Mo TS A) (l1 : Int) : Mo TS A := Loop (fun x => t_numberAll_10b k_105 x) l1
theorem st_numberAll_10 {Γ : Gm} {h : CH} {d : Nat} (hT : HT h) (o : Ok Γ "LazyForgeModel" cX11_numberAll 2 (Option.none : Option Jvm.ClassFile.FieldType) (d + 0)) {A : Type} {K : A → TS → Prop} (k_105 : Mo TS A) (hk_105 : Sx Γ (fun t => (h, t)) K 105 [(0, vA (mg Γ) 21)] [] (k_105)) (l1 : Int) (hl1 : R32 l1) : Sx Γ (fun t => (h, t)) K 10 [(0, vA (mg Γ) 21), (1, vI l1)] [] (t_numberAll_10 k_105 l1) :=
  s_loop okt_numberAll_10 (lvt_numberAll_10 Γ) (fun x hx => st_numberAll_10b hT o k_105 hk_105 x hx) (x := l1) hl1
noncomputable def t_numberAll : Mo TS Int :=
  bnd (gs 27) fun v1 =>
  bnd (ss 46 v1) fun _ =>
  t_numberAll_10
    (t_numberAll_107
    (pr 0) 0) 0
theorem st_numberAll (g : gC) (d : Nat) (h : CH) (hT : HT h) : SF g yX11_numberAll (Cond.code yX11_numberAll cX11_numberAll 2 (Option.none : Option Jvm.ClassFile.FieldType)) (Option.none : Option Jvm.ClassFile.FieldType) (d + 0) [vA g 21] (fun t => (h, t)) (t_numberAll) := by
  refine SF.of (lv := [(0, vA g 21)]) (by decide) (wt_A wt_0) rfl (by simp only [la_A, la_I, la_J, la_0]) (fun Γ hg hnm o => ?_)
  subst hg
  have o : Ok Γ "LazyForgeModel" cX11_numberAll 2 (Option.none : Option Jvm.ClassFile.FieldType) (d + 0) := o
  unfold t_numberAll
  refine s_aload_n o dX11_numberAll_0 rfl 0 rfl ?_
  refine s_aload_n o dX11_numberAll_1 rfl 0 rfl ?_
  refine r_tgf vI rfl o hT tf_functions tj_functions (lw_all_tbl q2531) dX11_numberAll_2 (fun v1 hv1 => ?_)
  refine r_tpf vI rfl o hT tf_named tj_named (lw_all_tbl q2550) dX11_numberAll_5 hv1 ty_int ?_
  refine s_iconst o dX11_numberAll_8 ?_
  refine r_istore_n o dX11_numberAll_9 rfl rfl ⟨(Nat.ne_of_beq_eq_false rfl), (fun _ => (vA_cat (mg Γ) 21)), trivial⟩ ?_
  refine r_to [(0, vA (mg Γ) 21), (1, vI 0)] [1, 0] rfl ?_
  refine st_numberAll_10 hT o _ ?_ 0 (r32 rfl)
  · refine s_iconst o dX11_numberAll_105 ?_
    refine r_istore_n o dX11_numberAll_106 rfl rfl ⟨(Nat.ne_of_beq_eq_false rfl), (fun _ => (vA_cat (mg Γ) 21)), trivial⟩ ?_
    refine r_to [(0, vA (mg Γ) 21), (1, vI 0)] [1, 0] rfl ?_
    refine st_numberAll_107 hT o _ ?_ 0 (r32 rfl)
    · exact s_vret o rfl dX11_numberAll_135 (fun _ hh => hh)
theorem dX11_hasRow_0 : decode cX11_hasRow 0 = .ok (.iload_n 0, 1) := by decide +kernel
theorem dX11_hasRow_1 : decode cX11_hasRow 1 = .ok (.ifCond .eq 20, 3) := by decide +kernel
theorem dX11_hasRow_4 : decode cX11_hasRow 4 = .ok (.iload_n 0, 1) := by decide +kernel
theorem dX11_hasRow_5 : decode cX11_hasRow 5 = .ok (.iconst 3, 1) := by decide +kernel
theorem dX11_hasRow_6 : decode cX11_hasRow 6 = .ok (.if_icmp .eq 15, 3) := by decide +kernel
theorem dX11_hasRow_9 : decode cX11_hasRow 9 = .ok (.iload_n 0, 1) := by decide +kernel
theorem dX11_hasRow_10 : decode cX11_hasRow 10 = .ok (.bipush 6, 2) := by decide +kernel
theorem dX11_hasRow_12 : decode cX11_hasRow 12 = .ok (.if_icmp .eq 9, 3) := by decide +kernel
theorem dX11_hasRow_15 : decode cX11_hasRow 15 = .ok (.iload_n 0, 1) := by decide +kernel
theorem dX11_hasRow_16 : decode cX11_hasRow 16 = .ok (.bipush 7, 2) := by decide +kernel
theorem dX11_hasRow_18 : decode cX11_hasRow 18 = .ok (.if_icmp .ne 7, 3) := by decide +kernel
theorem dX11_hasRow_21 : decode cX11_hasRow 21 = .ok (.iconst 1, 1) := by decide +kernel
theorem dX11_hasRow_22 : decode cX11_hasRow 22 = .ok (.goto 4, 3) := by decide +kernel
theorem dX11_hasRow_25 : decode cX11_hasRow 25 = .ok (.iconst 0, 1) := by decide +kernel
theorem dX11_hasRow_26 : decode cX11_hasRow 26 = .ok (.ireturn, 1) := by decide +kernel
theorem mw_X11_hasRow : MW yX11_hasRow (Cond.code yX11_hasRow cX11_hasRow 1 (Option.some Jvm.ClassFile.FieldType.boolean)) cX11_hasRow 1 (Option.some Jvm.ClassFile.FieldType.boolean) 1 := ⟨rfl, ⟨(lw_all_tbl q3124), rfl, (lw_all_tbl q173)⟩, rfl, ⟨by decide, by decide⟩, by decide +kernel⟩
noncomputable def t_hasRow_21  : Mo TS Int :=
  pr 1
theorem st_hasRow_21 {Γ : Gm} {h : CH} {d : Nat} (o : Ok Γ "LazyForgeModel" cX11_hasRow 1 (Option.some Jvm.ClassFile.FieldType.boolean) (d + 0))   : Sx Γ (fun t => (h, t)) (fun a s => mt Γ = (0, a, ((h, s) : Wd))) 21 [] [] (t_hasRow_21) := by
  unfold t_hasRow_21
  refine s_iconst o dX11_hasRow_21 ?_
  refine s_goto (tgt := 26) o dX11_hasRow_22 (by decide) ?_
  exact s_iret o rfl i_boolean (Or.inr rfl) dX11_hasRow_26 (fun _ hh => hh)
noncomputable def t_hasRow (l0 : Int) : Mo TS Int :=
  if l0 = 0 then
    t_hasRow_21
  else
    if l0 = 3 then
      t_hasRow_21
    else
      if l0 = 6 then
        t_hasRow_21
      else
        if ¬ l0 = 7 then
          pr 0
        else
          t_hasRow_21
theorem st_hasRow (g : gC) (d : Nat) (h : CH) (l0 : Int) (hl0 : R32 l0) : SF g yX11_hasRow (Cond.code yX11_hasRow cX11_hasRow 1 (Option.some Jvm.ClassFile.FieldType.boolean)) (Option.some Jvm.ClassFile.FieldType.boolean) (d + 0) [vI l0] (fun t => (h, t)) (t_hasRow l0) := by
  refine SF.of (lv := [(0, vI l0)]) (by decide) (wt_I wt_0) rfl (by simp only [la_A, la_I, la_J, la_0]) (fun Γ hg hnm o => ?_)
  subst hg
  have o : Ok Γ "LazyForgeModel" cX11_hasRow 1 (Option.some Jvm.ClassFile.FieldType.boolean) (d + 0) := o
  unfold t_hasRow
  refine s_iload_n o dX11_hasRow_0 rfl 0 rfl ?_
  refine s_if_eq (tgt := 21) o dX11_hasRow_1 (by decide) hl0 ?_ ?_
  · refine r_to [] [] rfl ?_
    exact st_hasRow_21 o
  · refine s_iload_n o dX11_hasRow_4 rfl 0 rfl ?_
    refine s_iconst o dX11_hasRow_5 ?_
    refine s_icmp_eq (tgt := 21) o dX11_hasRow_6 (by decide) hl0 (r32 rfl) ?_ ?_
    · refine r_to [] [] rfl ?_
      exact st_hasRow_21 o
    · refine s_iload_n o dX11_hasRow_9 rfl 0 rfl ?_
      refine s_bipush o dX11_hasRow_10 rfl ?_
      refine s_icmp_eq (tgt := 21) o dX11_hasRow_12 (by decide) hl0 (r32 rfl) ?_ ?_
      · refine r_to [] [] rfl ?_
        exact st_hasRow_21 o
      · refine s_iload_n o dX11_hasRow_15 rfl 0 rfl ?_
        refine s_bipush o dX11_hasRow_16 rfl ?_
        refine s_icmp_ne (tgt := 25) o dX11_hasRow_18 (by decide) hl0 (r32 rfl) ?_ ?_
        · refine s_iconst o dX11_hasRow_25 ?_
          exact s_iret o rfl i_boolean (Or.inl rfl) dX11_hasRow_26 (fun _ hh => hh)
        · refine r_to [] [] rfl ?_
          exact st_hasRow_21 o
theorem dX11_newVariable_0 : decode cX11_newVariable 0 = .ok (.aload_n 0, 1) := by decide +kernel
theorem dX11_newVariable_1 : decode cX11_newVariable 1 = .ok (.getfield 474, 3) := by decide +kernel
theorem dX11_newVariable_4 : decode cX11_newVariable 4 = .ok (.istore_n 3, 1) := by decide +kernel
theorem dX11_newVariable_5 : decode cX11_newVariable 5 = .ok (.aload_n 0, 1) := by decide +kernel
theorem dX11_newVariable_6 : decode cX11_newVariable 6 = .ok (.dup, 1) := by decide +kernel
theorem dX11_newVariable_7 : decode cX11_newVariable 7 = .ok (.getfield 474, 3) := by decide +kernel
theorem dX11_newVariable_10 : decode cX11_newVariable 10 = .ok (.iconst 1, 1) := by decide +kernel
theorem dX11_newVariable_11 : decode cX11_newVariable 11 = .ok (.iadd, 1) := by decide +kernel
theorem dX11_newVariable_12 : decode cX11_newVariable 12 = .ok (.putfield 474, 3) := by decide +kernel
theorem dX11_newVariable_15 : decode cX11_newVariable 15 = .ok (.aload_n 0, 1) := by decide +kernel
theorem dX11_newVariable_16 : decode cX11_newVariable 16 = .ok (.getfield 107, 3) := by decide +kernel
theorem dX11_newVariable_19 : decode cX11_newVariable 19 = .ok (.aload_n 0, 1) := by decide +kernel
theorem dX11_newVariable_20 : decode cX11_newVariable 20 = .ok (.getfield 477, 3) := by decide +kernel
theorem dX11_newVariable_23 : decode cX11_newVariable 23 = .ok (.iconst 1, 1) := by decide +kernel
theorem dX11_newVariable_24 : decode cX11_newVariable 24 = .ok (.isub, 1) := by decide +kernel
theorem dX11_newVariable_25 : decode cX11_newVariable 25 = .ok (.iaload, 1) := by decide +kernel
theorem dX11_newVariable_26 : decode cX11_newVariable 26 = .ok (.istore 4, 2) := by decide +kernel
theorem dX11_newVariable_28 : decode cX11_newVariable 28 = .ok (.aload_n 0, 1) := by decide +kernel
theorem dX11_newVariable_29 : decode cX11_newVariable 29 = .ok (.getfield 89, 3) := by decide +kernel
theorem dX11_newVariable_32 : decode cX11_newVariable 32 = .ok (.iload_n 3, 1) := by decide +kernel
theorem dX11_newVariable_33 : decode cX11_newVariable 33 = .ok (.iload 4, 2) := by decide +kernel
theorem dX11_newVariable_35 : decode cX11_newVariable 35 = .ok (.iastore, 1) := by decide +kernel
theorem dX11_newVariable_36 : decode cX11_newVariable 36 = .ok (.aload_n 0, 1) := by decide +kernel
theorem dX11_newVariable_37 : decode cX11_newVariable 37 = .ok (.getfield 92, 3) := by decide +kernel
theorem dX11_newVariable_40 : decode cX11_newVariable 40 = .ok (.iload_n 3, 1) := by decide +kernel
theorem dX11_newVariable_41 : decode cX11_newVariable 41 = .ok (.aload_n 0, 1) := by decide +kernel
theorem dX11_newVariable_42 : decode cX11_newVariable 42 = .ok (.getfield 95, 3) := by decide +kernel
theorem dX11_newVariable_45 : decode cX11_newVariable 45 = .ok (.iload 4, 2) := by decide +kernel
theorem dX11_newVariable_47 : decode cX11_newVariable 47 = .ok (.iaload, 1) := by decide +kernel
theorem dX11_newVariable_48 : decode cX11_newVariable 48 = .ok (.iastore, 1) := by decide +kernel
theorem dX11_newVariable_49 : decode cX11_newVariable 49 = .ok (.aload_n 0, 1) := by decide +kernel
theorem dX11_newVariable_50 : decode cX11_newVariable 50 = .ok (.getfield 95, 3) := by decide +kernel
theorem dX11_newVariable_53 : decode cX11_newVariable 53 = .ok (.iload 4, 2) := by decide +kernel
theorem dX11_newVariable_55 : decode cX11_newVariable 55 = .ok (.dup2, 1) := by decide +kernel
theorem dX11_newVariable_56 : decode cX11_newVariable 56 = .ok (.iaload, 1) := by decide +kernel
theorem dX11_newVariable_57 : decode cX11_newVariable 57 = .ok (.iconst 1, 1) := by decide +kernel
theorem dX11_newVariable_58 : decode cX11_newVariable 58 = .ok (.iadd, 1) := by decide +kernel
theorem dX11_newVariable_59 : decode cX11_newVariable 59 = .ok (.iastore, 1) := by decide +kernel
theorem dX11_newVariable_60 : decode cX11_newVariable 60 = .ok (.aload_n 0, 1) := by decide +kernel
theorem dX11_newVariable_61 : decode cX11_newVariable 61 = .ok (.getfield 101, 3) := by decide +kernel
theorem dX11_newVariable_64 : decode cX11_newVariable 64 = .ok (.aload_n 0, 1) := by decide +kernel
theorem dX11_newVariable_65 : decode cX11_newVariable 65 = .ok (.getfield 480, 3) := by decide +kernel
theorem dX11_newVariable_68 : decode cX11_newVariable 68 = .ok (.lload_n 1, 1) := by decide +kernel
theorem dX11_newVariable_69 : decode cX11_newVariable 69 = .ok (.lastore, 1) := by decide +kernel
theorem dX11_newVariable_70 : decode cX11_newVariable 70 = .ok (.aload_n 0, 1) := by decide +kernel
theorem dX11_newVariable_71 : decode cX11_newVariable 71 = .ok (.getfield 104, 3) := by decide +kernel
theorem dX11_newVariable_74 : decode cX11_newVariable 74 = .ok (.aload_n 0, 1) := by decide +kernel
theorem dX11_newVariable_75 : decode cX11_newVariable 75 = .ok (.getfield 480, 3) := by decide +kernel
theorem dX11_newVariable_78 : decode cX11_newVariable 78 = .ok (.iload_n 3, 1) := by decide +kernel
theorem dX11_newVariable_79 : decode cX11_newVariable 79 = .ok (.iastore, 1) := by decide +kernel
theorem dX11_newVariable_80 : decode cX11_newVariable 80 = .ok (.aload_n 0, 1) := by decide +kernel
theorem dX11_newVariable_81 : decode cX11_newVariable 81 = .ok (.dup, 1) := by decide +kernel
theorem dX11_newVariable_82 : decode cX11_newVariable 82 = .ok (.getfield 480, 3) := by decide +kernel
theorem dX11_newVariable_85 : decode cX11_newVariable 85 = .ok (.iconst 1, 1) := by decide +kernel
theorem dX11_newVariable_86 : decode cX11_newVariable 86 = .ok (.iadd, 1) := by decide +kernel
theorem dX11_newVariable_87 : decode cX11_newVariable 87 = .ok (.putfield 480, 3) := by decide +kernel
theorem dX11_newVariable_90 : decode cX11_newVariable 90 = .ok (.iload_n 3, 1) := by decide +kernel
theorem dX11_newVariable_91 : decode cX11_newVariable 91 = .ok (.ireturn, 1) := by decide +kernel
theorem mw_X11_newVariable : MW yX11_newVariable (Cond.code yX11_newVariable cX11_newVariable 5 (Option.some Jvm.ClassFile.FieldType.int)) cX11_newVariable 5 (Option.some Jvm.ClassFile.FieldType.int) 1 := ⟨rfl, ⟨(lw_all_tbl q3132), rfl, (lw_all_tbl q173)⟩, rfl, ⟨by decide, by decide⟩, by decide +kernel⟩
noncomputable def t_newVariable (l1 : Int) : Mo TS Int :=
  bnd (gs 50) fun v1 =>
  bnd (gs 50) fun v2 =>
  bnd (ss 50 (w32 (v2 + 1))) fun _ =>
  bnd (gs 58) fun v3 =>
  bnd (rd 59 64 (w32 (v3 - 1))) fun v4 =>
  bnd (wr 51 3200 v1 v4) fun _ =>
  bnd (rd 53 640 v4) fun v5 =>
  bnd (wr 52 3200 v1 v5) fun _ =>
  bnd (rd 53 640 v4) fun v6 =>
  bnd (wr 53 640 v4 (w32 (v6 + 1))) fun _ =>
  bnd (gs 55) fun v7 =>
  bnd (wr 56 3200 v7 l1) fun _ =>
  bnd (gs 55) fun v8 =>
  bnd (wr 57 3200 v8 v1) fun _ =>
  bnd (gs 55) fun v9 =>
  bnd (ss 55 (w32 (v9 + 1))) fun _ =>
  pr v1
theorem st_newVariable (g : gC) (d : Nat) (h : CH) (hT : HT h) (l1 : Int) (hl1 : R64 l1) : SF g yX11_newVariable (Cond.code yX11_newVariable cX11_newVariable 5 (Option.some Jvm.ClassFile.FieldType.int)) (Option.some Jvm.ClassFile.FieldType.int) (d + 0) [vA g 21, vJ l1] (fun t => (h, t)) (t_newVariable l1) := by
  refine SF.of (lv := [(0, vA g 21), (1, vJ l1)]) (by decide) (wt_A (wt_J wt_0)) rfl (by simp only [la_A, la_I, la_J, la_0]) (fun Γ hg hnm o => ?_)
  subst hg
  have o : Ok Γ "LazyForgeModel" cX11_newVariable 5 (Option.some Jvm.ClassFile.FieldType.int) (d + 0) := o
  unfold t_newVariable
  refine s_aload_n o dX11_newVariable_0 rfl 0 rfl ?_
  refine r_tgf vI rfl o hT tf_variables tj_variables (lw_all_tbl q2554) dX11_newVariable_1 (fun v1 hv1 => ?_)
  refine r_istore_n o dX11_newVariable_4 rfl rfl ⟨(Nat.ne_of_beq_eq_false rfl), (fun _ => (vA_cat (mg Γ) 21)), ⟨(Nat.ne_of_beq_eq_false rfl), (fun e => absurd e (Nat.ne_of_beq_eq_false rfl)), trivial⟩⟩ ?_
  refine s_aload_n o dX11_newVariable_5 rfl 1 rfl ?_
  refine s_dup o dX11_newVariable_6 (vA_cat (mg Γ) 21) ?_
  refine r_tgf vI rfl o hT tf_variables tj_variables (lw_all_tbl q2554) dX11_newVariable_7 (fun v2 hv2 => ?_)
  refine s_iconst o dX11_newVariable_10 ?_
  refine s_iadd o dX11_newVariable_11 ?_
  refine r_tpf vI rfl o hT tf_variables tj_variables (lw_all_tbl q2554) dX11_newVariable_12 (w32_R _) ty_int ?_
  refine s_aload_n o dX11_newVariable_15 rfl 1 rfl ?_
  refine s_tga (x := 54) o hT tf_arounds ta_arounds (lw_all_tbl q2563) dX11_newVariable_16 ?_
  refine s_aload_n o dX11_newVariable_19 rfl 1 rfl ?_
  refine r_tgf vI rfl o hT tf_around tj_around (lw_all_tbl q2562) dX11_newVariable_20 (fun v3 hv3 => ?_)
  refine s_iconst o dX11_newVariable_23 ?_
  refine s_isub o dX11_newVariable_24 ?_
  refine r_tiald o hT tr_arounds (w32_R _) dX11_newVariable_25 (fun v4 hv4 => ?_)
  refine r_istore o dX11_newVariable_26 rfl ⟨(Nat.ne_of_beq_eq_false rfl), (fun _ => rfl), ⟨(Nat.ne_of_beq_eq_false rfl), (fun _ => (vA_cat (mg Γ) 21)), ⟨(Nat.ne_of_beq_eq_false rfl), (fun e => absurd e (Nat.ne_of_beq_eq_false rfl)), trivial⟩⟩⟩ ?_
  refine s_aload_n o dX11_newVariable_28 rfl 2 rfl ?_
  refine s_tga (x := 48) o hT tf_homes ta_homes (lw_all_tbl q2555) dX11_newVariable_29 ?_
  refine s_iload_n o dX11_newVariable_32 rfl 1 rfl ?_
  refine s_iload o dX11_newVariable_33 0 rfl ?_
  refine r_tiast o hT tr_homes hv1 hv4 dX11_newVariable_35 ?_
  refine s_aload_n o dX11_newVariable_36 rfl 2 rfl ?_
  refine s_tga (x := 49) o hT tf_owns ta_owns (lw_all_tbl q2556) dX11_newVariable_37 ?_
  refine s_iload_n o dX11_newVariable_40 rfl 1 rfl ?_
  refine s_aload_n o dX11_newVariable_41 rfl 2 rfl ?_
  refine s_tga (x := 50) o hT tf_ownCounts ta_ownCounts (lw_all_tbl q2557) dX11_newVariable_42 ?_
  refine s_iload o dX11_newVariable_45 0 rfl ?_
  refine r_tiald o hT tr_ownCounts hv4 dX11_newVariable_47 (fun v5 hv5 => ?_)
  refine r_tiast o hT tr_owns hv1 hv5 dX11_newVariable_48 ?_
  refine s_aload_n o dX11_newVariable_49 rfl 2 rfl ?_
  refine s_tga (x := 50) o hT tf_ownCounts ta_ownCounts (lw_all_tbl q2557) dX11_newVariable_50 ?_
  refine s_iload o dX11_newVariable_53 0 rfl ?_
  refine s_dup2 o dX11_newVariable_55 rfl (vA_cat (mg Γ) 50) ?_
  refine r_tiald o hT tr_ownCounts hv4 dX11_newVariable_56 (fun v6 hv6 => ?_)
  refine s_iconst o dX11_newVariable_57 ?_
  refine s_iadd o dX11_newVariable_58 ?_
  refine r_tiast o hT tr_ownCounts hv4 (w32_R _) dX11_newVariable_59 ?_
  refine s_aload_n o dX11_newVariable_60 rfl 2 rfl ?_
  refine s_tga (x := 52) o hT tf_seenNames ta_seenNames (lw_all_tbl q2560) dX11_newVariable_61 ?_
  refine s_aload_n o dX11_newVariable_64 rfl 2 rfl ?_
  refine r_tgf vI rfl o hT tf_seen tj_seen (lw_all_tbl q2559) dX11_newVariable_65 (fun v7 hv7 => ?_)
  refine s_lload_n o dX11_newVariable_68 rfl 3 rfl ?_
  refine r_tlast o hT tr_seenNames hv7 hl1 dX11_newVariable_69 ?_
  refine s_aload_n o dX11_newVariable_70 rfl 2 rfl ?_
  refine s_tga (x := 53) o hT tf_seenVariables ta_seenVariables (lw_all_tbl q2561) dX11_newVariable_71 ?_
  refine s_aload_n o dX11_newVariable_74 rfl 2 rfl ?_
  refine r_tgf vI rfl o hT tf_seen tj_seen (lw_all_tbl q2559) dX11_newVariable_75 (fun v8 hv8 => ?_)
  refine s_iload_n o dX11_newVariable_78 rfl 1 rfl ?_
  refine r_tiast o hT tr_seenVariables hv8 hv1 dX11_newVariable_79 ?_
  refine s_aload_n o dX11_newVariable_80 rfl 2 rfl ?_
  refine s_dup o dX11_newVariable_81 (vA_cat (mg Γ) 21) ?_
  refine r_tgf vI rfl o hT tf_seen tj_seen (lw_all_tbl q2559) dX11_newVariable_82 (fun v9 hv9 => ?_)
  refine s_iconst o dX11_newVariable_85 ?_
  refine s_iadd o dX11_newVariable_86 ?_
  refine r_tpf vI rfl o hT tf_seen tj_seen (lw_all_tbl q2559) dX11_newVariable_87 (w32_R _) ty_int ?_
  refine s_iload_n o dX11_newVariable_90 rfl 1 rfl ?_
  exact s_iret o rfl i_int hv1 dX11_newVariable_91 (fun _ hh => hh)
theorem dX11_addFree_0 : decode cX11_addFree 0 = .ok (.iconst 0, 1) := by decide +kernel
theorem dX11_addFree_1 : decode cX11_addFree 1 = .ok (.istore_n 3, 1) := by decide +kernel
theorem dX11_addFree_2 : decode cX11_addFree 2 = .ok (.iconst 0, 1) := by decide +kernel
theorem dX11_addFree_3 : decode cX11_addFree 3 = .ok (.istore 4, 2) := by decide +kernel
theorem dX11_addFree_5 : decode cX11_addFree 5 = .ok (.iload 4, 2) := by decide +kernel
theorem dX11_addFree_7 : decode cX11_addFree 7 = .ok (.aload_n 0, 1) := by decide +kernel
theorem dX11_addFree_8 : decode cX11_addFree 8 = .ok (.getfield 83, 3) := by decide +kernel
theorem dX11_addFree_11 : decode cX11_addFree 11 = .ok (.iload_n 1, 1) := by decide +kernel
theorem dX11_addFree_12 : decode cX11_addFree 12 = .ok (.iaload, 1) := by decide +kernel
theorem dX11_addFree_13 : decode cX11_addFree 13 = .ok (.if_icmp .ge 35, 3) := by decide +kernel
theorem dX11_addFree_16 : decode cX11_addFree 16 = .ok (.iload_n 3, 1) := by decide +kernel
theorem dX11_addFree_17 : decode cX11_addFree 17 = .ok (.ifCond .ne 19, 3) := by decide +kernel
theorem dX11_addFree_20 : decode cX11_addFree 20 = .ok (.aload_n 0, 1) := by decide +kernel
theorem dX11_addFree_21 : decode cX11_addFree 21 = .ok (.getfield 86, 3) := by decide +kernel
theorem dX11_addFree_24 : decode cX11_addFree 24 = .ok (.bipush 9, 2) := by decide +kernel
theorem dX11_addFree_26 : decode cX11_addFree 26 = .ok (.iload_n 1, 1) := by decide +kernel
theorem dX11_addFree_27 : decode cX11_addFree 27 = .ok (.imul, 1) := by decide +kernel
theorem dX11_addFree_28 : decode cX11_addFree 28 = .ok (.iload 4, 2) := by decide +kernel
theorem dX11_addFree_30 : decode cX11_addFree 30 = .ok (.iadd, 1) := by decide +kernel
theorem dX11_addFree_31 : decode cX11_addFree 31 = .ok (.iaload, 1) := by decide +kernel
theorem dX11_addFree_32 : decode cX11_addFree 32 = .ok (.iload_n 2, 1) := by decide +kernel
theorem dX11_addFree_33 : decode cX11_addFree 33 = .ok (.if_icmp .ne 7, 3) := by decide +kernel
theorem dX11_addFree_36 : decode cX11_addFree 36 = .ok (.iconst 1, 1) := by decide +kernel
theorem dX11_addFree_37 : decode cX11_addFree 37 = .ok (.goto 4, 3) := by decide +kernel
theorem dX11_addFree_40 : decode cX11_addFree 40 = .ok (.iconst 0, 1) := by decide +kernel
theorem dX11_addFree_41 : decode cX11_addFree 41 = .ok (.istore_n 3, 1) := by decide +kernel
theorem dX11_addFree_42 : decode cX11_addFree 42 = .ok (.iinc 4 1, 3) := by decide +kernel
theorem dX11_addFree_45 : decode cX11_addFree 45 = .ok (.goto (-40), 3) := by decide +kernel
theorem dX11_addFree_48 : decode cX11_addFree 48 = .ok (.iload_n 3, 1) := by decide +kernel
theorem dX11_addFree_49 : decode cX11_addFree 49 = .ok (.ifCond .ne 41, 3) := by decide +kernel
theorem dX11_addFree_52 : decode cX11_addFree 52 = .ok (.aload_n 0, 1) := by decide +kernel
theorem dX11_addFree_53 : decode cX11_addFree 53 = .ok (.getfield 83, 3) := by decide +kernel
theorem dX11_addFree_56 : decode cX11_addFree 56 = .ok (.iload_n 1, 1) := by decide +kernel
theorem dX11_addFree_57 : decode cX11_addFree 57 = .ok (.iaload, 1) := by decide +kernel
theorem dX11_addFree_58 : decode cX11_addFree 58 = .ok (.bipush 9, 2) := by decide +kernel
theorem dX11_addFree_60 : decode cX11_addFree 60 = .ok (.if_icmp .ge 30, 3) := by decide +kernel
theorem dX11_addFree_63 : decode cX11_addFree 63 = .ok (.aload_n 0, 1) := by decide +kernel
theorem dX11_addFree_64 : decode cX11_addFree 64 = .ok (.getfield 86, 3) := by decide +kernel
theorem dX11_addFree_67 : decode cX11_addFree 67 = .ok (.bipush 9, 2) := by decide +kernel
theorem dX11_addFree_69 : decode cX11_addFree 69 = .ok (.iload_n 1, 1) := by decide +kernel
theorem dX11_addFree_70 : decode cX11_addFree 70 = .ok (.imul, 1) := by decide +kernel
theorem dX11_addFree_71 : decode cX11_addFree 71 = .ok (.aload_n 0, 1) := by decide +kernel
theorem dX11_addFree_72 : decode cX11_addFree 72 = .ok (.getfield 83, 3) := by decide +kernel
theorem dX11_addFree_75 : decode cX11_addFree 75 = .ok (.iload_n 1, 1) := by decide +kernel
theorem dX11_addFree_76 : decode cX11_addFree 76 = .ok (.iaload, 1) := by decide +kernel
theorem dX11_addFree_77 : decode cX11_addFree 77 = .ok (.iadd, 1) := by decide +kernel
theorem dX11_addFree_78 : decode cX11_addFree 78 = .ok (.iload_n 2, 1) := by decide +kernel
theorem dX11_addFree_79 : decode cX11_addFree 79 = .ok (.iastore, 1) := by decide +kernel
theorem dX11_addFree_80 : decode cX11_addFree 80 = .ok (.aload_n 0, 1) := by decide +kernel
theorem dX11_addFree_81 : decode cX11_addFree 81 = .ok (.getfield 83, 3) := by decide +kernel
theorem dX11_addFree_84 : decode cX11_addFree 84 = .ok (.iload_n 1, 1) := by decide +kernel
theorem dX11_addFree_85 : decode cX11_addFree 85 = .ok (.dup2, 1) := by decide +kernel
theorem dX11_addFree_86 : decode cX11_addFree 86 = .ok (.iaload, 1) := by decide +kernel
theorem dX11_addFree_87 : decode cX11_addFree 87 = .ok (.iconst 1, 1) := by decide +kernel
theorem dX11_addFree_88 : decode cX11_addFree 88 = .ok (.iadd, 1) := by decide +kernel
theorem dX11_addFree_89 : decode cX11_addFree 89 = .ok (.iastore, 1) := by decide +kernel
theorem dX11_addFree_90 : decode cX11_addFree 90 = .ok (.return_, 1) := by decide +kernel
theorem mw_X11_addFree : MW yX11_addFree (Cond.code yX11_addFree cX11_addFree 5 (Option.none : Option Jvm.ClassFile.FieldType)) cX11_addFree 5 (Option.none : Option Jvm.ClassFile.FieldType) 2 := ⟨rfl, ⟨(lw_all_tbl q3140), rfl, (lw_all_tbl q173)⟩, rfl, ⟨by decide, by decide⟩, by decide +kernel⟩
abbrev okt_addFree_5 (x : Int × Int × Int × Int) : Prop := R32 x.1 ∧ R32 x.2.1 ∧ rg .boolean x.2.2.1 ∧ R32 x.2.2.2
abbrev lvt_addFree_5 (Γ : Gm) (x : Int × Int × Int × Int) : List (Nat × Value) := [(0, vA (mg Γ) 21), (1, vI x.1), (2, vI x.2.1), (3, vI x.2.2.1), (4, vI x.2.2.2)]
noncomputable def t_addFree_41 {A : Type} (k_48 : Int → Int → Int → Mo TS A) (l1 : Int) (l2 : Int) (l4 : Int) (k0 : Int) : Mo TS ((Int × Int × Int × Int) ⊕ A) :=
  pr (.inl (l1, l2, k0, (w32 (l4 + 1))))
theorem st_addFree_41 {Γ : Gm} {h : CH} {d : Nat} (hT : HT h) (o : Ok Γ "LazyForgeModel" cX11_addFree 5 (Option.none : Option Jvm.ClassFile.FieldType) (d + 0)) {A : Type} {K : A → TS → Prop}  (k_48 : Int → Int → Int → Mo TS A) (hk_48 : ∀ (l1 : Int) (l2 : Int) (l3 : Int), R32 l1 → R32 l2 → rg .boolean l3 → Sx Γ (fun t => (h, t)) K 48 [(0, vA (mg Γ) 21), (1, vI l1), (2, vI l2), (3, vI l3)] [] (k_48 l1 l2 l3)) (l1 : Int) (l2 : Int) (l4 : Int) (k0 : Int) (hl1 : R32 l1) (hl2 : R32 l2) (hl4 : R32 l4) (hk0 : rg .boolean k0) : Sx Γ (fun t => (h, t)) (KL Γ (fun t => (h, t)) okt_addFree_5 K 5 (lvt_addFree_5 Γ) []) 41 [(0, vA (mg Γ) 21), (1, vI l1), (2, vI l2), (4, vI l4)] [vI k0] (t_addFree_41 k_48 l1 l2 l4 k0) := by
  unfold t_addFree_41
  refine r_istore_n o dX11_addFree_41 rfl rfl ⟨(Nat.ne_of_beq_eq_false rfl), (fun _ => (vA_cat (mg Γ) 21)), ⟨(Nat.ne_of_beq_eq_false rfl), (fun _ => rfl), ⟨(Nat.ne_of_beq_eq_false rfl), (fun _ => rfl), ⟨(Nat.ne_of_beq_eq_false rfl), (fun _ => rfl), trivial⟩⟩⟩⟩ ?_
  refine r_iinc (j := 4) o dX11_addFree_42 rfl rfl [(3, vI k0), (0, vA (mg Γ) 21), (1, vI l1), (2, vI l2)] [0, 1, 2, 3] rfl ⟨(Nat.ne_of_beq_eq_false rfl), (fun _ => rfl), ⟨(Nat.ne_of_beq_eq_false rfl), (fun _ => (vA_cat (mg Γ) 21)), ⟨(Nat.ne_of_beq_eq_false rfl), (fun _ => rfl), ⟨(Nat.ne_of_beq_eq_false rfl), (fun _ => rfl), trivial⟩⟩⟩⟩ ?_
  refine s_goto (tgt := 5) o dX11_addFree_45 (by decide) ?_
  refine r_to [(0, vA (mg Γ) 21), (1, vI l1), (2, vI l2), (3, vI k0), (4, vI (w32 (l4 + 1)))] [2, 3, 4, 1, 0] rfl ?_
  exact s_back (⟨hl1, hl2, hk0, (w32_R _)⟩) rfl
noncomputable def t_addFree_36 {A : Type} (k_48 : Int → Int → Int → Mo TS A) (l1 : Int) (l2 : Int) (l4 : Int) : Mo TS ((Int × Int × Int × Int) ⊕ A) :=
  t_addFree_41 k_48 l1 l2 l4 1
theorem st_addFree_36 {Γ : Gm} {h : CH} {d : Nat} (hT : HT h) (o : Ok Γ "LazyForgeModel" cX11_addFree 5 (Option.none : Option Jvm.ClassFile.FieldType) (d + 0)) {A : Type} {K : A → TS → Prop}  (k_48 : Int → Int → Int → Mo TS A) (hk_48 : ∀ (l1 : Int) (l2 : Int) (l3 : Int), R32 l1 → R32 l2 → rg .boolean l3 → Sx Γ (fun t => (h, t)) K 48 [(0, vA (mg Γ) 21), (1, vI l1), (2, vI l2), (3, vI l3)] [] (k_48 l1 l2 l3)) (l1 : Int) (l2 : Int) (l4 : Int) (hl1 : R32 l1) (hl2 : R32 l2) (hl4 : R32 l4) : Sx Γ (fun t => (h, t)) (KL Γ (fun t => (h, t)) okt_addFree_5 K 5 (lvt_addFree_5 Γ) []) 36 [(0, vA (mg Γ) 21), (1, vI l1), (2, vI l2), (4, vI l4)] [] (t_addFree_36 k_48 l1 l2 l4) := by
  unfold t_addFree_36
  refine s_iconst o dX11_addFree_36 ?_
  refine s_goto (tgt := 41) o dX11_addFree_37 (by decide) ?_
  exact st_addFree_41 hT o k_48 hk_48 l1 l2 l4 1 hl1 hl2 hl4 (Or.inr rfl)
noncomputable def t_addFree_5b {A : Type} (k_48 : Int → Int → Int → Mo TS A) (l1 : Int) (l2 : Int) (l3 : Int) (l4 : Int) : Mo TS ((Int × Int × Int × Int) ⊕ A) :=
  bnd (rd 48 640 l1) fun v1 =>
  if v1 ≤ l4 then
    lo (k_48 l1 l2 l3)
  else
    if ¬ l3 = 0 then
      t_addFree_36 k_48 l1 l2 l4
    else
      bnd (rd 49 5760 (w32 ((w32 (9 * l1)) + l4))) fun v2 =>
      if ¬ v2 = l2 then
        t_addFree_41 k_48 l1 l2 l4 0
      else
        t_addFree_36 k_48 l1 l2 l4
theorem st_addFree_5b {Γ : Gm} {h : CH} {d : Nat} (hT : HT h) (o : Ok Γ "LazyForgeModel" cX11_addFree 5 (Option.none : Option Jvm.ClassFile.FieldType) (d + 0)) {A : Type} {K : A → TS → Prop} (k_48 : Int → Int → Int → Mo TS A) (hk_48 : ∀ (l1 : Int) (l2 : Int) (l3 : Int), R32 l1 → R32 l2 → rg .boolean l3 → Sx Γ (fun t => (h, t)) K 48 [(0, vA (mg Γ) 21), (1, vI l1), (2, vI l2), (3, vI l3)] [] (k_48 l1 l2 l3)) (l1 : Int) (l2 : Int) (l3 : Int) (l4 : Int) (hl1 : R32 l1) (hl2 : R32 l2) (hl3 : rg .boolean l3) (hl4 : R32 l4) : Sx Γ (fun t => (h, t)) (KL Γ (fun t => (h, t)) okt_addFree_5 K 5 (lvt_addFree_5 Γ) []) 5 [(0, vA (mg Γ) 21), (1, vI l1), (2, vI l2), (3, vI l3), (4, vI l4)] [] (t_addFree_5b k_48 l1 l2 l3 l4) := by
  unfold t_addFree_5b
  refine s_iload o dX11_addFree_5 4 rfl ?_
  refine s_aload_n o dX11_addFree_7 rfl 0 rfl ?_
  refine s_tga (x := 46) o hT tf_freeCounts ta_freeCounts (lw_all_tbl q2552) dX11_addFree_8 ?_
  refine s_iload_n o dX11_addFree_11 rfl 1 rfl ?_
  refine r_tiald o hT tr_freeCounts hl1 dX11_addFree_12 (fun v1 hv1 => ?_)
  refine s_icmp_ge (tgt := 48) o dX11_addFree_13 (by decide) hl4 hv1 ?_ ?_
  · refine r_to [(0, vA (mg Γ) 21), (1, vI l1), (2, vI l2), (3, vI l3)] [0, 1, 2, 3] rfl ?_
    exact s_lo (hk_48 l1 l2 l3 hl1 hl2 hl3)
  · refine s_iload_n o dX11_addFree_16 rfl 3 rfl ?_
    refine s_if_ne (tgt := 36) o dX11_addFree_17 (by decide) (rZ hl3) ?_ ?_
    · refine r_to [(0, vA (mg Γ) 21), (1, vI l1), (2, vI l2), (4, vI l4)] [0, 1, 2, 4] rfl ?_
      exact st_addFree_36 hT o k_48 hk_48 l1 l2 l4 hl1 hl2 hl4
    · refine s_aload_n o dX11_addFree_20 rfl 0 rfl ?_
      refine s_tga (x := 47) o hT tf_frees ta_frees (lw_all_tbl q2553) dX11_addFree_21 ?_
      refine s_bipush o dX11_addFree_24 rfl ?_
      refine s_iload_n o dX11_addFree_26 rfl 1 rfl ?_
      refine s_imul o dX11_addFree_27 ?_
      refine s_iload o dX11_addFree_28 4 rfl ?_
      refine s_iadd o dX11_addFree_30 ?_
      refine r_tiald o hT tr_frees (w32_R _) dX11_addFree_31 (fun v2 hv2 => ?_)
      refine s_iload_n o dX11_addFree_32 rfl 2 rfl ?_
      refine s_icmp_ne (tgt := 40) o dX11_addFree_33 (by decide) hv2 hl2 ?_ ?_
      · refine s_iconst o dX11_addFree_40 ?_
        refine r_to [(0, vA (mg Γ) 21), (1, vI l1), (2, vI l2), (4, vI l4)] [0, 1, 2, 4] rfl ?_
        exact st_addFree_41 hT o k_48 hk_48 l1 l2 l4 0 hl1 hl2 hl4 (Or.inl rfl)
      · refine r_to [(0, vA (mg Γ) 21), (1, vI l1), (2, vI l2), (4, vI l4)] [0, 1, 2, 4] rfl ?_
        exact st_addFree_36 hT o k_48 hk_48 l1 l2 l4 hl1 hl2 hl4
noncomputable def t_addFree_5 {A : Type} (k_48 : Int → Int → Int → Mo TS A) (l1 : Int) (l2 : Int) (l3 : Int) (l4 : Int) : Mo TS A := Loop (fun x => t_addFree_5b k_48 x.1 x.2.1 x.2.2.1 x.2.2.2) (l1, l2, l3, l4)
theorem st_addFree_5 {Γ : Gm} {h : CH} {d : Nat} (hT : HT h) (o : Ok Γ "LazyForgeModel" cX11_addFree 5 (Option.none : Option Jvm.ClassFile.FieldType) (d + 0)) {A : Type} {K : A → TS → Prop} (k_48 : Int → Int → Int → Mo TS A) (hk_48 : ∀ (l1 : Int) (l2 : Int) (l3 : Int), R32 l1 → R32 l2 → rg .boolean l3 → Sx Γ (fun t => (h, t)) K 48 [(0, vA (mg Γ) 21), (1, vI l1), (2, vI l2), (3, vI l3)] [] (k_48 l1 l2 l3)) (l1 : Int) (l2 : Int) (l3 : Int) (l4 : Int) (hl1 : R32 l1) (hl2 : R32 l2) (hl3 : rg .boolean l3) (hl4 : R32 l4) : Sx Γ (fun t => (h, t)) K 5 [(0, vA (mg Γ) 21), (1, vI l1), (2, vI l2), (3, vI l3), (4, vI l4)] [] (t_addFree_5 k_48 l1 l2 l3 l4) :=
  s_loop okt_addFree_5 (lvt_addFree_5 Γ) (fun x hx => st_addFree_5b hT o k_48 hk_48 x.1 x.2.1 x.2.2.1 x.2.2.2 hx.1 hx.2.1 hx.2.2.1 hx.2.2.2) (x := (l1, l2, l3, l4)) ⟨hl1, hl2, hl3, hl4⟩
noncomputable def t_addFree (l1 : Int) (l2 : Int) : Mo TS Int :=
  t_addFree_5
    (fun v1 v2 v3 => if ¬ v3 = 0 then
    pr 0
  else
    bnd (rd 48 640 v1) fun v4 =>
    if 9 ≤ v4 then
      pr 0
    else
      bnd (rd 48 640 v1) fun v5 =>
      bnd (wr 49 5760 (w32 ((w32 (9 * v1)) + v5)) v2) fun _ =>
      bnd (rd 48 640 v1) fun v6 =>
      bnd (wr 48 640 v1 (w32 (v6 + 1))) fun _ =>
      pr 0) l1 l2 0 0
theorem st_addFree (g : gC) (d : Nat) (h : CH) (hT : HT h) (l1 : Int) (l2 : Int) (hl1 : R32 l1) (hl2 : R32 l2) : SF g yX11_addFree (Cond.code yX11_addFree cX11_addFree 5 (Option.none : Option Jvm.ClassFile.FieldType)) (Option.none : Option Jvm.ClassFile.FieldType) (d + 0) [vA g 21, vI l1, vI l2] (fun t => (h, t)) (t_addFree l1 l2) := by
  refine SF.of (lv := [(0, vA g 21), (1, vI l1), (2, vI l2)]) (by decide) (wt_A (wt_I (wt_I wt_0))) rfl (by simp only [la_A, la_I, la_J, la_0]) (fun Γ hg hnm o => ?_)
  subst hg
  have o : Ok Γ "LazyForgeModel" cX11_addFree 5 (Option.none : Option Jvm.ClassFile.FieldType) (d + 0) := o
  unfold t_addFree
  refine s_iconst o dX11_addFree_0 ?_
  refine r_istore_n o dX11_addFree_1 rfl rfl ⟨(Nat.ne_of_beq_eq_false rfl), (fun _ => (vA_cat (mg Γ) 21)), ⟨(Nat.ne_of_beq_eq_false rfl), (fun _ => rfl), ⟨(Nat.ne_of_beq_eq_false rfl), (fun _ => rfl), trivial⟩⟩⟩ ?_
  refine s_iconst o dX11_addFree_2 ?_
  refine r_istore o dX11_addFree_3 rfl ⟨(Nat.ne_of_beq_eq_false rfl), (fun _ => rfl), ⟨(Nat.ne_of_beq_eq_false rfl), (fun _ => (vA_cat (mg Γ) 21)), ⟨(Nat.ne_of_beq_eq_false rfl), (fun _ => rfl), ⟨(Nat.ne_of_beq_eq_false rfl), (fun _ => rfl), trivial⟩⟩⟩⟩ ?_
  refine r_to [(0, vA (mg Γ) 21), (1, vI l1), (2, vI l2), (3, vI 0), (4, vI 0)] [2, 3, 4, 1, 0] rfl ?_
  refine st_addFree_5 hT o _ ?_ l1 l2 0 0 hl1 hl2 (Or.inl rfl) (r32 rfl)
  · intro v1 v2 v3 hv1 hv2 hv3
    refine s_iload_n o dX11_addFree_48 rfl 3 rfl ?_
    refine s_if_ne (tgt := 90) o dX11_addFree_49 (by decide) (rZ hv3) ?_ ?_
    · exact s_vret o rfl dX11_addFree_90 (fun _ hh => hh)
    · refine s_aload_n o dX11_addFree_52 rfl 0 rfl ?_
      refine s_tga (x := 46) o hT tf_freeCounts ta_freeCounts (lw_all_tbl q2552) dX11_addFree_53 ?_
      refine s_iload_n o dX11_addFree_56 rfl 1 rfl ?_
      refine r_tiald o hT tr_freeCounts hv1 dX11_addFree_57 (fun v4 hv4 => ?_)
      refine s_bipush o dX11_addFree_58 rfl ?_
      refine s_icmp_ge (tgt := 90) o dX11_addFree_60 (by decide) hv4 (r32 rfl) ?_ ?_
      · exact s_vret o rfl dX11_addFree_90 (fun _ hh => hh)
      · refine s_aload_n o dX11_addFree_63 rfl 0 rfl ?_
        refine s_tga (x := 47) o hT tf_frees ta_frees (lw_all_tbl q2553) dX11_addFree_64 ?_
        refine s_bipush o dX11_addFree_67 rfl ?_
        refine s_iload_n o dX11_addFree_69 rfl 1 rfl ?_
        refine s_imul o dX11_addFree_70 ?_
        refine s_aload_n o dX11_addFree_71 rfl 0 rfl ?_
        refine s_tga (x := 46) o hT tf_freeCounts ta_freeCounts (lw_all_tbl q2552) dX11_addFree_72 ?_
        refine s_iload_n o dX11_addFree_75 rfl 1 rfl ?_
        refine r_tiald o hT tr_freeCounts hv1 dX11_addFree_76 (fun v5 hv5 => ?_)
        refine s_iadd o dX11_addFree_77 ?_
        refine s_iload_n o dX11_addFree_78 rfl 2 rfl ?_
        refine r_tiast o hT tr_frees (w32_R _) hv2 dX11_addFree_79 ?_
        refine s_aload_n o dX11_addFree_80 rfl 0 rfl ?_
        refine s_tga (x := 46) o hT tf_freeCounts ta_freeCounts (lw_all_tbl q2552) dX11_addFree_81 ?_
        refine s_iload_n o dX11_addFree_84 rfl 1 rfl ?_
        refine s_dup2 o dX11_addFree_85 rfl (vA_cat (mg Γ) 46) ?_
        refine r_tiald o hT tr_freeCounts hv1 dX11_addFree_86 (fun v6 hv6 => ?_)
        refine s_iconst o dX11_addFree_87 ?_
        refine s_iadd o dX11_addFree_88 ?_
        refine r_tiast o hT tr_freeCounts hv1 (w32_R _) dX11_addFree_89 ?_
        exact s_vret o rfl dX11_addFree_90 (fun _ hh => hh)
theorem dX11_childAt_0 : decode cX11_childAt 0 = .ok (.aload_n 0, 1) := by decide +kernel
theorem dX11_childAt_1 : decode cX11_childAt 1 = .ok (.getfield 16, 3) := by decide +kernel
theorem dX11_childAt_4 : decode cX11_childAt 4 = .ok (.iload_n 1, 1) := by decide +kernel
theorem dX11_childAt_5 : decode cX11_childAt 5 = .ok (.iaload, 1) := by decide +kernel
theorem dX11_childAt_6 : decode cX11_childAt 6 = .ok (.tableswitch 165 0 12 #[66, 150, 150, 66, 150, 121, 165, 165, 165, 165, 165, 165, 150], 66) := by decide +kernel
theorem dX11_childAt_72 : decode cX11_childAt 72 = .ok (.aload_n 0, 1) := by decide +kernel
theorem dX11_childAt_73 : decode cX11_childAt 73 = .ok (.getfield 16, 3) := by decide +kernel
theorem dX11_childAt_76 : decode cX11_childAt 76 = .ok (.iload_n 1, 1) := by decide +kernel
theorem dX11_childAt_77 : decode cX11_childAt 77 = .ok (.iaload, 1) := by decide +kernel
theorem dX11_childAt_78 : decode cX11_childAt 78 = .ok (.iconst 3, 1) := by decide +kernel
theorem dX11_childAt_79 : decode cX11_childAt 79 = .ok (.if_icmp .ne 15, 3) := by decide +kernel
theorem dX11_childAt_82 : decode cX11_childAt 82 = .ok (.iload_n 2, 1) := by decide +kernel
theorem dX11_childAt_83 : decode cX11_childAt 83 = .ok (.ifCond .ne 7, 3) := by decide +kernel
theorem dX11_childAt_86 : decode cX11_childAt 86 = .ok (.iconst 1, 1) := by decide +kernel
theorem dX11_childAt_87 : decode cX11_childAt 87 = .ok (.goto 22, 3) := by decide +kernel
theorem dX11_childAt_90 : decode cX11_childAt 90 = .ok (.iconst 0, 1) := by decide +kernel
theorem dX11_childAt_91 : decode cX11_childAt 91 = .ok (.goto 18, 3) := by decide +kernel
theorem dX11_childAt_94 : decode cX11_childAt 94 = .ok (.iload_n 3, 1) := by decide +kernel
theorem dX11_childAt_95 : decode cX11_childAt 95 = .ok (.ifCond .ge 13, 3) := by decide +kernel
theorem dX11_childAt_98 : decode cX11_childAt 98 = .ok (.iload_n 2, 1) := by decide +kernel
theorem dX11_childAt_99 : decode cX11_childAt 99 = .ok (.bipush 100, 2) := by decide +kernel
theorem dX11_childAt_101 : decode cX11_childAt 101 = .ok (.if_icmp .ge 7, 3) := by decide +kernel
theorem dX11_childAt_104 : decode cX11_childAt 104 = .ok (.iconst 1, 1) := by decide +kernel
theorem dX11_childAt_105 : decode cX11_childAt 105 = .ok (.goto 4, 3) := by decide +kernel
theorem dX11_childAt_108 : decode cX11_childAt 108 = .ok (.iconst 0, 1) := by decide +kernel
theorem dX11_childAt_109 : decode cX11_childAt 109 = .ok (.istore 4, 2) := by decide +kernel
theorem dX11_childAt_111 : decode cX11_childAt 111 = .ok (.iload 4, 2) := by decide +kernel
theorem dX11_childAt_113 : decode cX11_childAt 113 = .ok (.ifCond .eq 12, 3) := by decide +kernel
theorem dX11_childAt_116 : decode cX11_childAt 116 = .ok (.aload_n 0, 1) := by decide +kernel
theorem dX11_childAt_117 : decode cX11_childAt 117 = .ok (.getfield 31, 3) := by decide +kernel
theorem dX11_childAt_120 : decode cX11_childAt 120 = .ok (.iload_n 1, 1) := by decide +kernel
theorem dX11_childAt_121 : decode cX11_childAt 121 = .ok (.iaload, 1) := by decide +kernel
theorem dX11_childAt_122 : decode cX11_childAt 122 = .ok (.goto 4, 3) := by decide +kernel
theorem dX11_childAt_125 : decode cX11_childAt 125 = .ok (.iload_n 3, 1) := by decide +kernel
theorem dX11_childAt_126 : decode cX11_childAt 126 = .ok (.ireturn, 1) := by decide +kernel
theorem dX11_childAt_127 : decode cX11_childAt 127 = .ok (.iload_n 2, 1) := by decide +kernel
theorem dX11_childAt_128 : decode cX11_childAt 128 = .ok (.ifCond .ne 12, 3) := by decide +kernel
theorem dX11_childAt_131 : decode cX11_childAt 131 = .ok (.aload_n 0, 1) := by decide +kernel
theorem dX11_childAt_132 : decode cX11_childAt 132 = .ok (.getfield 19, 3) := by decide +kernel
theorem dX11_childAt_135 : decode cX11_childAt 135 = .ok (.iload_n 1, 1) := by decide +kernel
theorem dX11_childAt_136 : decode cX11_childAt 136 = .ok (.iaload, 1) := by decide +kernel
theorem dX11_childAt_137 : decode cX11_childAt 137 = .ok (.goto 18, 3) := by decide +kernel
theorem dX11_childAt_140 : decode cX11_childAt 140 = .ok (.iload_n 2, 1) := by decide +kernel
theorem dX11_childAt_141 : decode cX11_childAt 141 = .ok (.iconst 1, 1) := by decide +kernel
theorem dX11_childAt_142 : decode cX11_childAt 142 = .ok (.if_icmp .ne 12, 3) := by decide +kernel
theorem dX11_childAt_145 : decode cX11_childAt 145 = .ok (.aload_n 0, 1) := by decide +kernel
theorem dX11_childAt_146 : decode cX11_childAt 146 = .ok (.getfield 22, 3) := by decide +kernel
theorem dX11_childAt_149 : decode cX11_childAt 149 = .ok (.iload_n 1, 1) := by decide +kernel
theorem dX11_childAt_150 : decode cX11_childAt 150 = .ok (.iaload, 1) := by decide +kernel
theorem dX11_childAt_151 : decode cX11_childAt 151 = .ok (.goto 4, 3) := by decide +kernel
theorem dX11_childAt_154 : decode cX11_childAt 154 = .ok (.iconst (-1), 1) := by decide +kernel
theorem dX11_childAt_155 : decode cX11_childAt 155 = .ok (.ireturn, 1) := by decide +kernel
theorem dX11_childAt_156 : decode cX11_childAt 156 = .ok (.iload_n 2, 1) := by decide +kernel
theorem dX11_childAt_157 : decode cX11_childAt 157 = .ok (.ifCond .ne 12, 3) := by decide +kernel
theorem dX11_childAt_160 : decode cX11_childAt 160 = .ok (.aload_n 0, 1) := by decide +kernel
theorem dX11_childAt_161 : decode cX11_childAt 161 = .ok (.getfield 19, 3) := by decide +kernel
theorem dX11_childAt_164 : decode cX11_childAt 164 = .ok (.iload_n 1, 1) := by decide +kernel
theorem dX11_childAt_165 : decode cX11_childAt 165 = .ok (.iaload, 1) := by decide +kernel
theorem dX11_childAt_166 : decode cX11_childAt 166 = .ok (.goto 4, 3) := by decide +kernel
theorem dX11_childAt_169 : decode cX11_childAt 169 = .ok (.iconst (-1), 1) := by decide +kernel
theorem dX11_childAt_170 : decode cX11_childAt 170 = .ok (.ireturn, 1) := by decide +kernel
theorem dX11_childAt_171 : decode cX11_childAt 171 = .ok (.aload_n 0, 1) := by decide +kernel
theorem dX11_childAt_172 : decode cX11_childAt 172 = .ok (.getfield 16, 3) := by decide +kernel
theorem dX11_childAt_175 : decode cX11_childAt 175 = .ok (.iload_n 1, 1) := by decide +kernel
theorem dX11_childAt_176 : decode cX11_childAt 176 = .ok (.iaload, 1) := by decide +kernel
theorem dX11_childAt_177 : decode cX11_childAt 177 = .ok (.bipush 6, 2) := by decide +kernel
theorem dX11_childAt_179 : decode cX11_childAt 179 = .ok (.if_icmp .eq 14, 3) := by decide +kernel
theorem dX11_childAt_182 : decode cX11_childAt 182 = .ok (.aload_n 0, 1) := by decide +kernel
theorem dX11_childAt_183 : decode cX11_childAt 183 = .ok (.getfield 16, 3) := by decide +kernel
theorem dX11_childAt_186 : decode cX11_childAt 186 = .ok (.iload_n 1, 1) := by decide +kernel
theorem dX11_childAt_187 : decode cX11_childAt 187 = .ok (.iaload, 1) := by decide +kernel
theorem dX11_childAt_188 : decode cX11_childAt 188 = .ok (.bipush 7, 2) := by decide +kernel
theorem dX11_childAt_190 : decode cX11_childAt 190 = .ok (.if_icmp .ne 7, 3) := by decide +kernel
theorem dX11_childAt_193 : decode cX11_childAt 193 = .ok (.iload_n 3, 1) := by decide +kernel
theorem dX11_childAt_194 : decode cX11_childAt 194 = .ok (.goto 4, 3) := by decide +kernel
theorem dX11_childAt_197 : decode cX11_childAt 197 = .ok (.iconst (-1), 1) := by decide +kernel
theorem dX11_childAt_198 : decode cX11_childAt 198 = .ok (.ireturn, 1) := by decide +kernel
theorem mw_X11_childAt : MW yX11_childAt (Cond.code yX11_childAt cX11_childAt 5 (Option.some Jvm.ClassFile.FieldType.int)) cX11_childAt 5 (Option.some Jvm.ClassFile.FieldType.int) 3 := ⟨rfl, ⟨(lw_all_tbl q3152), rfl, (lw_all_tbl q173)⟩, rfl, ⟨by decide, by decide⟩, by decide +kernel⟩
noncomputable def t_childAt_109  (l1 : Int) (l3 : Int) (k0 : Int) : Mo TS Int :=
  if k0 = 0 then
    pr l3
  else
    bnd (rd 18 3200 l1) fun v1 =>
    pr v1
theorem st_childAt_109 {Γ : Gm} {h : CH} {d : Nat} (hT : HT h) (o : Ok Γ "LazyForgeModel" cX11_childAt 5 (Option.some Jvm.ClassFile.FieldType.int) (d + 0))   (l1 : Int) (l3 : Int) (k0 : Int) (hl1 : R32 l1) (hl3 : R32 l3) (hk0 : rg .boolean k0) : Sx Γ (fun t => (h, t)) (fun a s => mt Γ = (0, a, ((h, s) : Wd))) 109 [(0, vA (mg Γ) 21), (1, vI l1), (3, vI l3)] [vI k0] (t_childAt_109 l1 l3 k0) := by
  unfold t_childAt_109
  refine r_istore o dX11_childAt_109 rfl ⟨(Nat.ne_of_beq_eq_false rfl), (fun _ => (vA_cat (mg Γ) 21)), ⟨(Nat.ne_of_beq_eq_false rfl), (fun _ => rfl), ⟨(Nat.ne_of_beq_eq_false rfl), (fun _ => rfl), trivial⟩⟩⟩ ?_
  refine s_iload o dX11_childAt_111 0 rfl ?_
  refine s_if_eq (tgt := 125) o dX11_childAt_113 (by decide) (rZ hk0) ?_ ?_
  · refine s_iload_n o dX11_childAt_125 rfl 3 rfl ?_
    exact s_iret o rfl i_int hl3 dX11_childAt_126 (fun _ hh => hh)
  · refine s_aload_n o dX11_childAt_116 rfl 1 rfl ?_
    refine s_tga (x := 29) o hT tf_values ta_values (lw_all_tbl q2522) dX11_childAt_117 ?_
    refine s_iload_n o dX11_childAt_120 rfl 2 rfl ?_
    refine r_tiald o hT tr_values hl1 dX11_childAt_121 (fun v1 hv1 => ?_)
    refine s_goto (tgt := 126) o dX11_childAt_122 (by decide) ?_
    exact s_iret o rfl i_int hv1 dX11_childAt_126 (fun _ hh => hh)
noncomputable def t_childAt_108  (l1 : Int) (l3 : Int) : Mo TS Int :=
  t_childAt_109 l1 l3 0
theorem st_childAt_108 {Γ : Gm} {h : CH} {d : Nat} (hT : HT h) (o : Ok Γ "LazyForgeModel" cX11_childAt 5 (Option.some Jvm.ClassFile.FieldType.int) (d + 0))   (l1 : Int) (l3 : Int) (hl1 : R32 l1) (hl3 : R32 l3) : Sx Γ (fun t => (h, t)) (fun a s => mt Γ = (0, a, ((h, s) : Wd))) 108 [(0, vA (mg Γ) 21), (1, vI l1), (3, vI l3)] [] (t_childAt_108 l1 l3) := by
  unfold t_childAt_108
  refine s_iconst o dX11_childAt_108 ?_
  exact st_childAt_109 hT o l1 l3 0 hl1 hl3 (Or.inl rfl)
noncomputable def t_childAt_193  (l3 : Int) : Mo TS Int :=
  pr l3
theorem st_childAt_193 {Γ : Gm} {h : CH} {d : Nat} (hT : HT h) (o : Ok Γ "LazyForgeModel" cX11_childAt 5 (Option.some Jvm.ClassFile.FieldType.int) (d + 0))   (l3 : Int) (hl3 : R32 l3) : Sx Γ (fun t => (h, t)) (fun a s => mt Γ = (0, a, ((h, s) : Wd))) 193 [(3, vI l3)] [] (t_childAt_193 l3) := by
  unfold t_childAt_193
  refine s_iload_n o dX11_childAt_193 rfl 0 rfl ?_
  refine s_goto (tgt := 198) o dX11_childAt_194 (by decide) ?_
  exact s_iret o rfl i_int hl3 dX11_childAt_198 (fun _ hh => hh)
noncomputable def t_childAt (l1 : Int) (l2 : Int) (l3 : Int) : Mo TS Int :=
  bnd (rd 13 3200 l1) fun v1 =>
  if v1 = 0 then
    bnd (rd 13 3200 l1) fun v3 =>
    if ¬ v3 = 3 then
      if 0 ≤ l3 then
        t_childAt_108 l1 l3
      else
        if 100 ≤ l2 then
          t_childAt_108 l1 l3
        else
          t_childAt_109 l1 l3 1
    else
      if ¬ l2 = 0 then
        t_childAt_109 l1 l3 0
      else
        t_childAt_109 l1 l3 1
  else
    if v1 = 1 then
      if ¬ l2 = 0 then
        pr (-1)
      else
        bnd (rd 14 3200 l1) fun v5 =>
        pr v5
    else
      if v1 = 2 then
        if ¬ l2 = 0 then
          pr (-1)
        else
          bnd (rd 14 3200 l1) fun v7 =>
          pr v7
      else
        if v1 = 3 then
          bnd (rd 13 3200 l1) fun v9 =>
          if ¬ v9 = 3 then
            if 0 ≤ l3 then
              t_childAt_108 l1 l3
            else
              if 100 ≤ l2 then
                t_childAt_108 l1 l3
              else
                t_childAt_109 l1 l3 1
          else
            if ¬ l2 = 0 then
              t_childAt_109 l1 l3 0
            else
              t_childAt_109 l1 l3 1
        else
          if v1 = 4 then
            if ¬ l2 = 0 then
              pr (-1)
            else
              bnd (rd 14 3200 l1) fun v11 =>
              pr v11
          else
            if v1 = 5 then
              if ¬ l2 = 0 then
                if ¬ l2 = 1 then
                  pr (-1)
                else
                  bnd (rd 15 3200 l1) fun v13 =>
                  pr v13
              else
                bnd (rd 14 3200 l1) fun v14 =>
                pr v14
            else
              if v1 = 12 then
                if ¬ l2 = 0 then
                  pr (-1)
                else
                  bnd (rd 14 3200 l1) fun v16 =>
                  pr v16
              else
                bnd (rd 13 3200 l1) fun v17 =>
                if v17 = 6 then
                  t_childAt_193 l3
                else
                  bnd (rd 13 3200 l1) fun v18 =>
                  if ¬ v18 = 7 then
                    pr (-1)
                  else
                    t_childAt_193 l3
theorem st_childAt (g : gC) (d : Nat) (h : CH) (hT : HT h) (l1 : Int) (l2 : Int) (l3 : Int) (hl1 : R32 l1) (hl2 : R32 l2) (hl3 : R32 l3) : SF g yX11_childAt (Cond.code yX11_childAt cX11_childAt 5 (Option.some Jvm.ClassFile.FieldType.int)) (Option.some Jvm.ClassFile.FieldType.int) (d + 0) [vA g 21, vI l1, vI l2, vI l3] (fun t => (h, t)) (t_childAt l1 l2 l3) := by
  refine SF.of (lv := [(0, vA g 21), (1, vI l1), (2, vI l2), (3, vI l3)]) (by decide) (wt_A (wt_I (wt_I (wt_I wt_0)))) rfl (by simp only [la_A, la_I, la_J, la_0]) (fun Γ hg hnm o => ?_)
  subst hg
  have o : Ok Γ "LazyForgeModel" cX11_childAt 5 (Option.some Jvm.ClassFile.FieldType.int) (d + 0) := o
  unfold t_childAt
  refine s_aload_n o dX11_childAt_0 rfl 0 rfl ?_
  refine s_tga (x := 24) o hT tf_kinds ta_kinds (lw_all_tbl q2517) dX11_childAt_1 ?_
  refine s_iload_n o dX11_childAt_4 rfl 1 rfl ?_
  refine r_tiald o hT tr_kinds hl1 dX11_childAt_5 (fun v1 hv1 => ?_)
  refine s_case (P := True) (fun e1 => ?_) (fun e1 => ?_)
  · refine s_tabE o e1 dX11_childAt_6 (r32 rfl) rfl rfl (tgt := 72) (by decide) ?_
    refine s_aload_n o dX11_childAt_72 rfl 0 rfl ?_
    refine s_tga (x := 24) o hT tf_kinds ta_kinds (lw_all_tbl q2517) dX11_childAt_73 ?_
    refine s_iload_n o dX11_childAt_76 rfl 1 rfl ?_
    refine r_tiald o hT tr_kinds hl1 dX11_childAt_77 (fun v3 hv3 => ?_)
    refine s_iconst o dX11_childAt_78 ?_
    refine s_icmp_ne (tgt := 94) o dX11_childAt_79 (by decide) hv3 (r32 rfl) ?_ ?_
    · refine s_iload_n o dX11_childAt_94 rfl 3 rfl ?_
      refine s_if_ge (tgt := 108) o dX11_childAt_95 (by decide) hl3 ?_ ?_
      · refine r_to [(0, vA (mg Γ) 21), (1, vI l1), (3, vI l3)] [0, 1, 3] rfl ?_
        exact st_childAt_108 hT o l1 l3 hl1 hl3
      · refine s_iload_n o dX11_childAt_98 rfl 2 rfl ?_
        refine s_bipush o dX11_childAt_99 rfl ?_
        refine s_icmp_ge (tgt := 108) o dX11_childAt_101 (by decide) hl2 (r32 rfl) ?_ ?_
        · refine r_to [(0, vA (mg Γ) 21), (1, vI l1), (3, vI l3)] [0, 1, 3] rfl ?_
          exact st_childAt_108 hT o l1 l3 hl1 hl3
        · refine s_iconst o dX11_childAt_104 ?_
          refine s_goto (tgt := 109) o dX11_childAt_105 (by decide) ?_
          refine r_to [(0, vA (mg Γ) 21), (1, vI l1), (3, vI l3)] [0, 1, 3] rfl ?_
          exact st_childAt_109 hT o l1 l3 1 hl1 hl3 (Or.inr rfl)
    · refine s_iload_n o dX11_childAt_82 rfl 2 rfl ?_
      refine s_if_ne (tgt := 90) o dX11_childAt_83 (by decide) hl2 ?_ ?_
      · refine s_iconst o dX11_childAt_90 ?_
        refine s_goto (tgt := 109) o dX11_childAt_91 (by decide) ?_
        refine r_to [(0, vA (mg Γ) 21), (1, vI l1), (3, vI l3)] [0, 1, 3] rfl ?_
        exact st_childAt_109 hT o l1 l3 0 hl1 hl3 (Or.inl rfl)
      · refine s_iconst o dX11_childAt_86 ?_
        refine s_goto (tgt := 109) o dX11_childAt_87 (by decide) ?_
        refine r_to [(0, vA (mg Γ) 21), (1, vI l1), (3, vI l3)] [0, 1, 3] rfl ?_
        exact st_childAt_109 hT o l1 l3 1 hl1 hl3 (Or.inr rfl)
  · refine s_case (P := True) (fun e3 => ?_) (fun e3 => ?_)
    · refine s_tabE o e3 dX11_childAt_6 (r32 rfl) rfl rfl (tgt := 156) (by decide) ?_
      refine s_iload_n o dX11_childAt_156 rfl 2 rfl ?_
      refine s_if_ne (tgt := 169) o dX11_childAt_157 (by decide) hl2 ?_ ?_
      · refine s_iconst o dX11_childAt_169 ?_
        exact s_iret o rfl i_int (r32 rfl) dX11_childAt_170 (fun _ hh => hh)
      · refine s_aload_n o dX11_childAt_160 rfl 0 rfl ?_
        refine s_tga (x := 25) o hT tf_firsts ta_firsts (lw_all_tbl q2518) dX11_childAt_161 ?_
        refine s_iload_n o dX11_childAt_164 rfl 1 rfl ?_
        refine r_tiald o hT tr_firsts hl1 dX11_childAt_165 (fun v5 hv5 => ?_)
        refine s_goto (tgt := 170) o dX11_childAt_166 (by decide) ?_
        exact s_iret o rfl i_int hv5 dX11_childAt_170 (fun _ hh => hh)
    · refine s_case (P := True) (fun e5 => ?_) (fun e5 => ?_)
      · refine s_tabE o e5 dX11_childAt_6 (r32 rfl) rfl rfl (tgt := 156) (by decide) ?_
        refine s_iload_n o dX11_childAt_156 rfl 2 rfl ?_
        refine s_if_ne (tgt := 169) o dX11_childAt_157 (by decide) hl2 ?_ ?_
        · refine s_iconst o dX11_childAt_169 ?_
          exact s_iret o rfl i_int (r32 rfl) dX11_childAt_170 (fun _ hh => hh)
        · refine s_aload_n o dX11_childAt_160 rfl 0 rfl ?_
          refine s_tga (x := 25) o hT tf_firsts ta_firsts (lw_all_tbl q2518) dX11_childAt_161 ?_
          refine s_iload_n o dX11_childAt_164 rfl 1 rfl ?_
          refine r_tiald o hT tr_firsts hl1 dX11_childAt_165 (fun v7 hv7 => ?_)
          refine s_goto (tgt := 170) o dX11_childAt_166 (by decide) ?_
          exact s_iret o rfl i_int hv7 dX11_childAt_170 (fun _ hh => hh)
      · refine s_case (P := True) (fun e7 => ?_) (fun e7 => ?_)
        · refine s_tabE o e7 dX11_childAt_6 (r32 rfl) rfl rfl (tgt := 72) (by decide) ?_
          refine s_aload_n o dX11_childAt_72 rfl 0 rfl ?_
          refine s_tga (x := 24) o hT tf_kinds ta_kinds (lw_all_tbl q2517) dX11_childAt_73 ?_
          refine s_iload_n o dX11_childAt_76 rfl 1 rfl ?_
          refine r_tiald o hT tr_kinds hl1 dX11_childAt_77 (fun v9 hv9 => ?_)
          refine s_iconst o dX11_childAt_78 ?_
          refine s_icmp_ne (tgt := 94) o dX11_childAt_79 (by decide) hv9 (r32 rfl) ?_ ?_
          · refine s_iload_n o dX11_childAt_94 rfl 3 rfl ?_
            refine s_if_ge (tgt := 108) o dX11_childAt_95 (by decide) hl3 ?_ ?_
            · refine r_to [(0, vA (mg Γ) 21), (1, vI l1), (3, vI l3)] [0, 1, 3] rfl ?_
              exact st_childAt_108 hT o l1 l3 hl1 hl3
            · refine s_iload_n o dX11_childAt_98 rfl 2 rfl ?_
              refine s_bipush o dX11_childAt_99 rfl ?_
              refine s_icmp_ge (tgt := 108) o dX11_childAt_101 (by decide) hl2 (r32 rfl) ?_ ?_
              · refine r_to [(0, vA (mg Γ) 21), (1, vI l1), (3, vI l3)] [0, 1, 3] rfl ?_
                exact st_childAt_108 hT o l1 l3 hl1 hl3
              · refine s_iconst o dX11_childAt_104 ?_
                refine s_goto (tgt := 109) o dX11_childAt_105 (by decide) ?_
                refine r_to [(0, vA (mg Γ) 21), (1, vI l1), (3, vI l3)] [0, 1, 3] rfl ?_
                exact st_childAt_109 hT o l1 l3 1 hl1 hl3 (Or.inr rfl)
          · refine s_iload_n o dX11_childAt_82 rfl 2 rfl ?_
            refine s_if_ne (tgt := 90) o dX11_childAt_83 (by decide) hl2 ?_ ?_
            · refine s_iconst o dX11_childAt_90 ?_
              refine s_goto (tgt := 109) o dX11_childAt_91 (by decide) ?_
              refine r_to [(0, vA (mg Γ) 21), (1, vI l1), (3, vI l3)] [0, 1, 3] rfl ?_
              exact st_childAt_109 hT o l1 l3 0 hl1 hl3 (Or.inl rfl)
            · refine s_iconst o dX11_childAt_86 ?_
              refine s_goto (tgt := 109) o dX11_childAt_87 (by decide) ?_
              refine r_to [(0, vA (mg Γ) 21), (1, vI l1), (3, vI l3)] [0, 1, 3] rfl ?_
              exact st_childAt_109 hT o l1 l3 1 hl1 hl3 (Or.inr rfl)
        · refine s_case (P := True) (fun e9 => ?_) (fun e9 => ?_)
          · refine s_tabE o e9 dX11_childAt_6 (r32 rfl) rfl rfl (tgt := 156) (by decide) ?_
            refine s_iload_n o dX11_childAt_156 rfl 2 rfl ?_
            refine s_if_ne (tgt := 169) o dX11_childAt_157 (by decide) hl2 ?_ ?_
            · refine s_iconst o dX11_childAt_169 ?_
              exact s_iret o rfl i_int (r32 rfl) dX11_childAt_170 (fun _ hh => hh)
            · refine s_aload_n o dX11_childAt_160 rfl 0 rfl ?_
              refine s_tga (x := 25) o hT tf_firsts ta_firsts (lw_all_tbl q2518) dX11_childAt_161 ?_
              refine s_iload_n o dX11_childAt_164 rfl 1 rfl ?_
              refine r_tiald o hT tr_firsts hl1 dX11_childAt_165 (fun v11 hv11 => ?_)
              refine s_goto (tgt := 170) o dX11_childAt_166 (by decide) ?_
              exact s_iret o rfl i_int hv11 dX11_childAt_170 (fun _ hh => hh)
          · refine s_case (P := True) (fun e11 => ?_) (fun e11 => ?_)
            · refine s_tabE o e11 dX11_childAt_6 (r32 rfl) rfl rfl (tgt := 127) (by decide) ?_
              refine s_iload_n o dX11_childAt_127 rfl 2 rfl ?_
              refine s_if_ne (tgt := 140) o dX11_childAt_128 (by decide) hl2 ?_ ?_
              · refine s_iload_n o dX11_childAt_140 rfl 2 rfl ?_
                refine s_iconst o dX11_childAt_141 ?_
                refine s_icmp_ne (tgt := 154) o dX11_childAt_142 (by decide) hl2 (r32 rfl) ?_ ?_
                · refine s_iconst o dX11_childAt_154 ?_
                  exact s_iret o rfl i_int (r32 rfl) dX11_childAt_155 (fun _ hh => hh)
                · refine s_aload_n o dX11_childAt_145 rfl 0 rfl ?_
                  refine s_tga (x := 26) o hT tf_seconds ta_seconds (lw_all_tbl q2519) dX11_childAt_146 ?_
                  refine s_iload_n o dX11_childAt_149 rfl 1 rfl ?_
                  refine r_tiald o hT tr_seconds hl1 dX11_childAt_150 (fun v13 hv13 => ?_)
                  refine s_goto (tgt := 155) o dX11_childAt_151 (by decide) ?_
                  exact s_iret o rfl i_int hv13 dX11_childAt_155 (fun _ hh => hh)
              · refine s_aload_n o dX11_childAt_131 rfl 0 rfl ?_
                refine s_tga (x := 25) o hT tf_firsts ta_firsts (lw_all_tbl q2518) dX11_childAt_132 ?_
                refine s_iload_n o dX11_childAt_135 rfl 1 rfl ?_
                refine r_tiald o hT tr_firsts hl1 dX11_childAt_136 (fun v14 hv14 => ?_)
                refine s_goto (tgt := 155) o dX11_childAt_137 (by decide) ?_
                exact s_iret o rfl i_int hv14 dX11_childAt_155 (fun _ hh => hh)
            · refine s_case (P := True) (fun e14 => ?_) (fun e14 => ?_)
              · refine s_tabE o e14 dX11_childAt_6 (r32 rfl) rfl rfl (tgt := 156) (by decide) ?_
                refine s_iload_n o dX11_childAt_156 rfl 2 rfl ?_
                refine s_if_ne (tgt := 169) o dX11_childAt_157 (by decide) hl2 ?_ ?_
                · refine s_iconst o dX11_childAt_169 ?_
                  exact s_iret o rfl i_int (r32 rfl) dX11_childAt_170 (fun _ hh => hh)
                · refine s_aload_n o dX11_childAt_160 rfl 0 rfl ?_
                  refine s_tga (x := 25) o hT tf_firsts ta_firsts (lw_all_tbl q2518) dX11_childAt_161 ?_
                  refine s_iload_n o dX11_childAt_164 rfl 1 rfl ?_
                  refine r_tiald o hT tr_firsts hl1 dX11_childAt_165 (fun v16 hv16 => ?_)
                  refine s_goto (tgt := 170) o dX11_childAt_166 (by decide) ?_
                  exact s_iret o rfl i_int hv16 dX11_childAt_170 (fun _ hh => hh)
              · refine s_split (x := v1) (v := 6) (fun e18 => ?_) (fun e18 => ?_)
                · refine s_tabE o e18 dX11_childAt_6 (r32 rfl) rfl rfl (tgt := 171) (by decide) ?_
                  refine s_aload_n o dX11_childAt_171 rfl 0 rfl ?_
                  refine s_tga (x := 24) o hT tf_kinds ta_kinds (lw_all_tbl q2517) dX11_childAt_172 ?_
                  refine s_iload_n o dX11_childAt_175 rfl 1 rfl ?_
                  refine r_tiald o hT tr_kinds hl1 dX11_childAt_176 (fun v17 hv17 => ?_)
                  refine s_bipush o dX11_childAt_177 rfl ?_
                  refine s_icmp_eq (tgt := 193) o dX11_childAt_179 (by decide) hv17 (r32 rfl) ?_ ?_
                  · refine r_to [(3, vI l3)] [3] rfl ?_
                    exact st_childAt_193 hT o l3 hl3
                  · refine s_aload_n o dX11_childAt_182 rfl 0 rfl ?_
                    refine s_tga (x := 24) o hT tf_kinds ta_kinds (lw_all_tbl q2517) dX11_childAt_183 ?_
                    refine s_iload_n o dX11_childAt_186 rfl 1 rfl ?_
                    refine r_tiald o hT tr_kinds hl1 dX11_childAt_187 (fun v18 hv18 => ?_)
                    refine s_bipush o dX11_childAt_188 rfl ?_
                    refine s_icmp_ne (tgt := 197) o dX11_childAt_190 (by decide) hv18 (r32 rfl) ?_ ?_
                    · refine s_iconst o dX11_childAt_197 ?_
                      exact s_iret o rfl i_int (r32 rfl) dX11_childAt_198 (fun _ hh => hh)
                    · refine r_to [(3, vI l3)] [3] rfl ?_
                      exact st_childAt_193 hT o l3 hl3
                · refine s_split (x := v1) (v := 7) (fun e21 => ?_) (fun e21 => ?_)
                  · refine s_tabE o e21 dX11_childAt_6 (r32 rfl) rfl rfl (tgt := 171) (by decide) ?_
                    refine s_aload_n o dX11_childAt_171 rfl 0 rfl ?_
                    refine s_tga (x := 24) o hT tf_kinds ta_kinds (lw_all_tbl q2517) dX11_childAt_172 ?_
                    refine s_iload_n o dX11_childAt_175 rfl 1 rfl ?_
                    refine r_tiald o hT tr_kinds hl1 dX11_childAt_176 (fun v20 hv20 => ?_)
                    refine s_bipush o dX11_childAt_177 rfl ?_
                    refine s_icmp_eq (tgt := 193) o dX11_childAt_179 (by decide) hv20 (r32 rfl) ?_ ?_
                    · refine r_to [(3, vI l3)] [3] rfl ?_
                      exact st_childAt_193 hT o l3 hl3
                    · refine s_aload_n o dX11_childAt_182 rfl 0 rfl ?_
                      refine s_tga (x := 24) o hT tf_kinds ta_kinds (lw_all_tbl q2517) dX11_childAt_183 ?_
                      refine s_iload_n o dX11_childAt_186 rfl 1 rfl ?_
                      refine r_tiald o hT tr_kinds hl1 dX11_childAt_187 (fun v21 hv21 => ?_)
                      refine s_bipush o dX11_childAt_188 rfl ?_
                      refine s_icmp_ne (tgt := 197) o dX11_childAt_190 (by decide) hv21 (r32 rfl) ?_ ?_
                      · refine s_iconst o dX11_childAt_197 ?_
                        exact s_iret o rfl i_int (r32 rfl) dX11_childAt_198 (fun _ hh => hh)
                      · refine r_to [(3, vI l3)] [3] rfl ?_
                        exact st_childAt_193 hT o l3 hl3
                  · refine s_split (x := v1) (v := 8) (fun e24 => ?_) (fun e24 => ?_)
                    · refine s_tabE o e24 dX11_childAt_6 (r32 rfl) rfl rfl (tgt := 171) (by decide) ?_
                      refine s_aload_n o dX11_childAt_171 rfl 0 rfl ?_
                      refine s_tga (x := 24) o hT tf_kinds ta_kinds (lw_all_tbl q2517) dX11_childAt_172 ?_
                      refine s_iload_n o dX11_childAt_175 rfl 1 rfl ?_
                      refine r_tiald o hT tr_kinds hl1 dX11_childAt_176 (fun v23 hv23 => ?_)
                      refine s_bipush o dX11_childAt_177 rfl ?_
                      refine s_icmp_eq (tgt := 193) o dX11_childAt_179 (by decide) hv23 (r32 rfl) ?_ ?_
                      · refine r_to [(3, vI l3)] [3] rfl ?_
                        exact st_childAt_193 hT o l3 hl3
                      · refine s_aload_n o dX11_childAt_182 rfl 0 rfl ?_
                        refine s_tga (x := 24) o hT tf_kinds ta_kinds (lw_all_tbl q2517) dX11_childAt_183 ?_
                        refine s_iload_n o dX11_childAt_186 rfl 1 rfl ?_
                        refine r_tiald o hT tr_kinds hl1 dX11_childAt_187 (fun v24 hv24 => ?_)
                        refine s_bipush o dX11_childAt_188 rfl ?_
                        refine s_icmp_ne (tgt := 197) o dX11_childAt_190 (by decide) hv24 (r32 rfl) ?_ ?_
                        · refine s_iconst o dX11_childAt_197 ?_
                          exact s_iret o rfl i_int (r32 rfl) dX11_childAt_198 (fun _ hh => hh)
                        · refine r_to [(3, vI l3)] [3] rfl ?_
                          exact st_childAt_193 hT o l3 hl3
                    · refine s_split (x := v1) (v := 9) (fun e27 => ?_) (fun e27 => ?_)
                      · refine s_tabE o e27 dX11_childAt_6 (r32 rfl) rfl rfl (tgt := 171) (by decide) ?_
                        refine s_aload_n o dX11_childAt_171 rfl 0 rfl ?_
                        refine s_tga (x := 24) o hT tf_kinds ta_kinds (lw_all_tbl q2517) dX11_childAt_172 ?_
                        refine s_iload_n o dX11_childAt_175 rfl 1 rfl ?_
                        refine r_tiald o hT tr_kinds hl1 dX11_childAt_176 (fun v26 hv26 => ?_)
                        refine s_bipush o dX11_childAt_177 rfl ?_
                        refine s_icmp_eq (tgt := 193) o dX11_childAt_179 (by decide) hv26 (r32 rfl) ?_ ?_
                        · refine r_to [(3, vI l3)] [3] rfl ?_
                          exact st_childAt_193 hT o l3 hl3
                        · refine s_aload_n o dX11_childAt_182 rfl 0 rfl ?_
                          refine s_tga (x := 24) o hT tf_kinds ta_kinds (lw_all_tbl q2517) dX11_childAt_183 ?_
                          refine s_iload_n o dX11_childAt_186 rfl 1 rfl ?_
                          refine r_tiald o hT tr_kinds hl1 dX11_childAt_187 (fun v27 hv27 => ?_)
                          refine s_bipush o dX11_childAt_188 rfl ?_
                          refine s_icmp_ne (tgt := 197) o dX11_childAt_190 (by decide) hv27 (r32 rfl) ?_ ?_
                          · refine s_iconst o dX11_childAt_197 ?_
                            exact s_iret o rfl i_int (r32 rfl) dX11_childAt_198 (fun _ hh => hh)
                          · refine r_to [(3, vI l3)] [3] rfl ?_
                            exact st_childAt_193 hT o l3 hl3
                      · refine s_split (x := v1) (v := 10) (fun e30 => ?_) (fun e30 => ?_)
                        · refine s_tabE o e30 dX11_childAt_6 (r32 rfl) rfl rfl (tgt := 171) (by decide) ?_
                          refine s_aload_n o dX11_childAt_171 rfl 0 rfl ?_
                          refine s_tga (x := 24) o hT tf_kinds ta_kinds (lw_all_tbl q2517) dX11_childAt_172 ?_
                          refine s_iload_n o dX11_childAt_175 rfl 1 rfl ?_
                          refine r_tiald o hT tr_kinds hl1 dX11_childAt_176 (fun v29 hv29 => ?_)
                          refine s_bipush o dX11_childAt_177 rfl ?_
                          refine s_icmp_eq (tgt := 193) o dX11_childAt_179 (by decide) hv29 (r32 rfl) ?_ ?_
                          · refine r_to [(3, vI l3)] [3] rfl ?_
                            exact st_childAt_193 hT o l3 hl3
                          · refine s_aload_n o dX11_childAt_182 rfl 0 rfl ?_
                            refine s_tga (x := 24) o hT tf_kinds ta_kinds (lw_all_tbl q2517) dX11_childAt_183 ?_
                            refine s_iload_n o dX11_childAt_186 rfl 1 rfl ?_
                            refine r_tiald o hT tr_kinds hl1 dX11_childAt_187 (fun v30 hv30 => ?_)
                            refine s_bipush o dX11_childAt_188 rfl ?_
                            refine s_icmp_ne (tgt := 197) o dX11_childAt_190 (by decide) hv30 (r32 rfl) ?_ ?_
                            · refine s_iconst o dX11_childAt_197 ?_
                              exact s_iret o rfl i_int (r32 rfl) dX11_childAt_198 (fun _ hh => hh)
                            · refine r_to [(3, vI l3)] [3] rfl ?_
                              exact st_childAt_193 hT o l3 hl3
                        · refine s_split (x := v1) (v := 11) (fun e33 => ?_) (fun e33 => ?_)
                          · refine s_tabE o e33 dX11_childAt_6 (r32 rfl) rfl rfl (tgt := 171) (by decide) ?_
                            refine s_aload_n o dX11_childAt_171 rfl 0 rfl ?_
                            refine s_tga (x := 24) o hT tf_kinds ta_kinds (lw_all_tbl q2517) dX11_childAt_172 ?_
                            refine s_iload_n o dX11_childAt_175 rfl 1 rfl ?_
                            refine r_tiald o hT tr_kinds hl1 dX11_childAt_176 (fun v32 hv32 => ?_)
                            refine s_bipush o dX11_childAt_177 rfl ?_
                            refine s_icmp_eq (tgt := 193) o dX11_childAt_179 (by decide) hv32 (r32 rfl) ?_ ?_
                            · refine r_to [(3, vI l3)] [3] rfl ?_
                              exact st_childAt_193 hT o l3 hl3
                            · refine s_aload_n o dX11_childAt_182 rfl 0 rfl ?_
                              refine s_tga (x := 24) o hT tf_kinds ta_kinds (lw_all_tbl q2517) dX11_childAt_183 ?_
                              refine s_iload_n o dX11_childAt_186 rfl 1 rfl ?_
                              refine r_tiald o hT tr_kinds hl1 dX11_childAt_187 (fun v33 hv33 => ?_)
                              refine s_bipush o dX11_childAt_188 rfl ?_
                              refine s_icmp_ne (tgt := 197) o dX11_childAt_190 (by decide) hv33 (r32 rfl) ?_ ?_
                              · refine s_iconst o dX11_childAt_197 ?_
                                exact s_iret o rfl i_int (r32 rfl) dX11_childAt_198 (fun _ hh => hh)
                              · refine r_to [(3, vI l3)] [3] rfl ?_
                                exact st_childAt_193 hT o l3 hl3
                          · refine s_tabOut o dX11_childAt_6 hv1 (by omega) (tgt := 171) (by decide) ?_
                            refine s_aload_n o dX11_childAt_171 rfl 0 rfl ?_
                            refine s_tga (x := 24) o hT tf_kinds ta_kinds (lw_all_tbl q2517) dX11_childAt_172 ?_
                            refine s_iload_n o dX11_childAt_175 rfl 1 rfl ?_
                            refine r_tiald o hT tr_kinds hl1 dX11_childAt_176 (fun v35 hv35 => ?_)
                            refine s_bipush o dX11_childAt_177 rfl ?_
                            refine s_icmp_eq (tgt := 193) o dX11_childAt_179 (by decide) hv35 (r32 rfl) ?_ ?_
                            · refine r_to [(3, vI l3)] [3] rfl ?_
                              exact st_childAt_193 hT o l3 hl3
                            · refine s_aload_n o dX11_childAt_182 rfl 0 rfl ?_
                              refine s_tga (x := 24) o hT tf_kinds ta_kinds (lw_all_tbl q2517) dX11_childAt_183 ?_
                              refine s_iload_n o dX11_childAt_186 rfl 1 rfl ?_
                              refine r_tiald o hT tr_kinds hl1 dX11_childAt_187 (fun v36 hv36 => ?_)
                              refine s_bipush o dX11_childAt_188 rfl ?_
                              refine s_icmp_ne (tgt := 197) o dX11_childAt_190 (by decide) hv36 (r32 rfl) ?_ ?_
                              · refine s_iconst o dX11_childAt_197 ?_
                                exact s_iret o rfl i_int (r32 rfl) dX11_childAt_198 (fun _ hh => hh)
                              · refine r_to [(3, vI l3)] [3] rfl ?_
                                exact st_childAt_193 hT o l3 hl3
theorem dX11_goOutOf_0 : decode cX11_goOutOf 0 = .ok (.aload_n 0, 1) := by decide +kernel
theorem dX11_goOutOf_1 : decode cX11_goOutOf 1 = .ok (.getfield 80, 3) := by decide +kernel
theorem dX11_goOutOf_4 : decode cX11_goOutOf 4 = .ok (.iload_n 1, 1) := by decide +kernel
theorem dX11_goOutOf_5 : decode cX11_goOutOf 5 = .ok (.iaload, 1) := by decide +kernel
theorem dX11_goOutOf_6 : decode cX11_goOutOf 6 = .ok (.ifCond .lt 13, 3) := by decide +kernel
theorem dX11_goOutOf_9 : decode cX11_goOutOf 9 = .ok (.aload_n 0, 1) := by decide +kernel
theorem dX11_goOutOf_10 : decode cX11_goOutOf 10 = .ok (.dup, 1) := by decide +kernel
theorem dX11_goOutOf_11 : decode cX11_goOutOf 11 = .ok (.getfield 477, 3) := by decide +kernel
theorem dX11_goOutOf_14 : decode cX11_goOutOf 14 = .ok (.iconst 1, 1) := by decide +kernel
theorem dX11_goOutOf_15 : decode cX11_goOutOf 15 = .ok (.isub, 1) := by decide +kernel
theorem dX11_goOutOf_16 : decode cX11_goOutOf 16 = .ok (.putfield 477, 3) := by decide +kernel
theorem dX11_goOutOf_19 : decode cX11_goOutOf 19 = .ok (.aload_n 0, 1) := by decide +kernel
theorem dX11_goOutOf_20 : decode cX11_goOutOf 20 = .ok (.getfield 16, 3) := by decide +kernel
theorem dX11_goOutOf_23 : decode cX11_goOutOf 23 = .ok (.iload_n 1, 1) := by decide +kernel
theorem dX11_goOutOf_24 : decode cX11_goOutOf 24 = .ok (.iaload, 1) := by decide +kernel
theorem dX11_goOutOf_25 : decode cX11_goOutOf 25 = .ok (.ifCond .ne 37, 3) := by decide +kernel
theorem dX11_goOutOf_28 : decode cX11_goOutOf 28 = .ok (.aload_n 0, 1) := by decide +kernel
theorem dX11_goOutOf_29 : decode cX11_goOutOf 29 = .ok (.getfield 19, 3) := by decide +kernel
theorem dX11_goOutOf_32 : decode cX11_goOutOf 32 = .ok (.iload_n 1, 1) := by decide +kernel
theorem dX11_goOutOf_33 : decode cX11_goOutOf 33 = .ok (.iaload, 1) := by decide +kernel
theorem dX11_goOutOf_34 : decode cX11_goOutOf 34 = .ok (.istore_n 2, 1) := by decide +kernel
theorem dX11_goOutOf_35 : decode cX11_goOutOf 35 = .ok (.iload_n 2, 1) := by decide +kernel
theorem dX11_goOutOf_36 : decode cX11_goOutOf 36 = .ok (.ifCond .lt 23, 3) := by decide +kernel
theorem dX11_goOutOf_39 : decode cX11_goOutOf 39 = .ok (.aload_n 0, 1) := by decide +kernel
theorem dX11_goOutOf_40 : decode cX11_goOutOf 40 = .ok (.dup, 1) := by decide +kernel
theorem dX11_goOutOf_41 : decode cX11_goOutOf 41 = .ok (.getfield 480, 3) := by decide +kernel
theorem dX11_goOutOf_44 : decode cX11_goOutOf 44 = .ok (.iconst 1, 1) := by decide +kernel
theorem dX11_goOutOf_45 : decode cX11_goOutOf 45 = .ok (.isub, 1) := by decide +kernel
theorem dX11_goOutOf_46 : decode cX11_goOutOf 46 = .ok (.putfield 480, 3) := by decide +kernel
theorem dX11_goOutOf_49 : decode cX11_goOutOf 49 = .ok (.aload_n 0, 1) := by decide +kernel
theorem dX11_goOutOf_50 : decode cX11_goOutOf 50 = .ok (.getfield 25, 3) := by decide +kernel
theorem dX11_goOutOf_53 : decode cX11_goOutOf 53 = .ok (.iload_n 2, 1) := by decide +kernel
theorem dX11_goOutOf_54 : decode cX11_goOutOf 54 = .ok (.iaload, 1) := by decide +kernel
theorem dX11_goOutOf_55 : decode cX11_goOutOf 55 = .ok (.istore_n 2, 1) := by decide +kernel
theorem dX11_goOutOf_56 : decode cX11_goOutOf 56 = .ok (.goto (-21), 3) := by decide +kernel
theorem dX11_goOutOf_59 : decode cX11_goOutOf 59 = .ok (.goto 18, 3) := by decide +kernel
theorem dX11_goOutOf_62 : decode cX11_goOutOf 62 = .ok (.aload_n 0, 1) := by decide +kernel
theorem dX11_goOutOf_63 : decode cX11_goOutOf 63 = .ok (.dup, 1) := by decide +kernel
theorem dX11_goOutOf_64 : decode cX11_goOutOf 64 = .ok (.getfield 480, 3) := by decide +kernel
theorem dX11_goOutOf_67 : decode cX11_goOutOf 67 = .ok (.aload_n 0, 1) := by decide +kernel
theorem dX11_goOutOf_68 : decode cX11_goOutOf 68 = .ok (.getfield 44, 3) := by decide +kernel
theorem dX11_goOutOf_71 : decode cX11_goOutOf 71 = .ok (.iload_n 1, 1) := by decide +kernel
theorem dX11_goOutOf_72 : decode cX11_goOutOf 72 = .ok (.iaload, 1) := by decide +kernel
theorem dX11_goOutOf_73 : decode cX11_goOutOf 73 = .ok (.isub, 1) := by decide +kernel
theorem dX11_goOutOf_74 : decode cX11_goOutOf 74 = .ok (.putfield 480, 3) := by decide +kernel
theorem dX11_goOutOf_77 : decode cX11_goOutOf 77 = .ok (.return_, 1) := by decide +kernel
theorem mw_X11_goOutOf : MW yX11_goOutOf (Cond.code yX11_goOutOf cX11_goOutOf 3 (Option.none : Option Jvm.ClassFile.FieldType)) cX11_goOutOf 3 (Option.none : Option Jvm.ClassFile.FieldType) 1 := ⟨rfl, ⟨(lw_all_tbl q3156), rfl, (lw_all_tbl q173)⟩, rfl, ⟨by decide, by decide⟩, by decide +kernel⟩
abbrev okt_goOutOf_35 (x : Int) : Prop := R32 x
abbrev lvt_goOutOf_35 (Γ : Gm) (x : Int) : List (Nat × Value) := [(0, vA (mg Γ) 21), (2, vI x)]
noncomputable def t_goOutOf_35b {A : Type} (k_59 : Mo TS A) (l2 : Int) : Mo TS ((Int) ⊕ A) :=
  if l2 < 0 then
    lo k_59
  else
    bnd (gs 55) fun v1 =>
    bnd (ss 55 (w32 (v1 - 1))) fun _ =>
    bnd (rd 16 3200 l2) fun v2 =>
    pr (.inl v2)
theorem st_goOutOf_35b {Γ : Gm} {h : CH} {d : Nat} (hT : HT h) (o : Ok Γ "LazyForgeModel" cX11_goOutOf 3 (Option.none : Option Jvm.ClassFile.FieldType) (d + 0)) {A : Type} {K : A → TS → Prop} (k_59 : Mo TS A) (hk_59 : Sx Γ (fun t => (h, t)) K 59 [] [] (k_59)) (l2 : Int) (hl2 : R32 l2) : Sx Γ (fun t => (h, t)) (KL Γ (fun t => (h, t)) okt_goOutOf_35 K 35 (lvt_goOutOf_35 Γ) []) 35 [(0, vA (mg Γ) 21), (2, vI l2)] [] (t_goOutOf_35b k_59 l2) := by
  unfold t_goOutOf_35b
  refine s_iload_n o dX11_goOutOf_35 rfl 1 rfl ?_
  refine s_if_lt (tgt := 59) o dX11_goOutOf_36 (by decide) hl2 ?_ ?_
  · refine r_to [] [] rfl ?_
    exact s_lo hk_59
  · refine s_aload_n o dX11_goOutOf_39 rfl 0 rfl ?_
    refine s_dup o dX11_goOutOf_40 (vA_cat (mg Γ) 21) ?_
    refine r_tgf vI rfl o hT tf_seen tj_seen (lw_all_tbl q2559) dX11_goOutOf_41 (fun v1 hv1 => ?_)
    refine s_iconst o dX11_goOutOf_44 ?_
    refine s_isub o dX11_goOutOf_45 ?_
    refine r_tpf vI rfl o hT tf_seen tj_seen (lw_all_tbl q2559) dX11_goOutOf_46 (w32_R _) ty_int ?_
    refine s_aload_n o dX11_goOutOf_49 rfl 0 rfl ?_
    refine s_tga (x := 27) o hT tf_nexts ta_nexts (lw_all_tbl q2520) dX11_goOutOf_50 ?_
    refine s_iload_n o dX11_goOutOf_53 rfl 1 rfl ?_
    refine r_tiald o hT tr_nexts hl2 dX11_goOutOf_54 (fun v2 hv2 => ?_)
    refine r_istore_nP o dX11_goOutOf_55 rfl rfl [(0, vA (mg Γ) 21)] [0] rfl ⟨(Nat.ne_of_beq_eq_false rfl), (fun _ => (vA_cat (mg Γ) 21)), trivial⟩ ?_
    refine s_goto (tgt := 35) o dX11_goOutOf_56 (by decide) ?_
    refine r_to [(0, vA (mg Γ) 21), (2, vI v2)] [1, 0] rfl ?_
    exact s_back hv2 rfl
noncomputable def t_goOutOf_35 {A : Type} (k_59 : Mo TS A) (l2 : Int) : Mo TS A := Loop (fun x => t_goOutOf_35b k_59 x) l2
theorem st_goOutOf_35 {Γ : Gm} {h : CH} {d : Nat} (hT : HT h) (o : Ok Γ "LazyForgeModel" cX11_goOutOf 3 (Option.none : Option Jvm.ClassFile.FieldType) (d + 0)) {A : Type} {K : A → TS → Prop} (k_59 : Mo TS A) (hk_59 : Sx Γ (fun t => (h, t)) K 59 [] [] (k_59)) (l2 : Int) (hl2 : R32 l2) : Sx Γ (fun t => (h, t)) K 35 [(0, vA (mg Γ) 21), (2, vI l2)] [] (t_goOutOf_35 k_59 l2) :=
  s_loop okt_goOutOf_35 (lvt_goOutOf_35 Γ) (fun x hx => st_goOutOf_35b hT o k_59 hk_59 x hx) (x := l2) hl2
noncomputable def t_goOutOf_19  (l1 : Int) : Mo TS Int :=
  bnd (rd 13 3200 l1) fun v1 =>
  if ¬ v1 = 0 then
    bnd (gs 55) fun v2 =>
    bnd (rd 22 3200 l1) fun v3 =>
    bnd (ss 55 (w32 (v2 - v3))) fun _ =>
    pr 0
  else
    bnd (rd 14 3200 l1) fun v4 =>
    t_goOutOf_35
      (pr 0) v4
theorem st_goOutOf_19 {Γ : Gm} {h : CH} {d : Nat} (hT : HT h) (o : Ok Γ "LazyForgeModel" cX11_goOutOf 3 (Option.none : Option Jvm.ClassFile.FieldType) (d + 0))   (l1 : Int) (hl1 : R32 l1) : Sx Γ (fun t => (h, t)) (fun a s => mt Γ = (0, a, ((h, s) : Wd))) 19 [(0, vA (mg Γ) 21), (1, vI l1)] [] (t_goOutOf_19 l1) := by
  unfold t_goOutOf_19
  refine s_aload_n o dX11_goOutOf_19 rfl 0 rfl ?_
  refine s_tga (x := 24) o hT tf_kinds ta_kinds (lw_all_tbl q2517) dX11_goOutOf_20 ?_
  refine s_iload_n o dX11_goOutOf_23 rfl 1 rfl ?_
  refine r_tiald o hT tr_kinds hl1 dX11_goOutOf_24 (fun v1 hv1 => ?_)
  refine s_if_ne (tgt := 62) o dX11_goOutOf_25 (by decide) hv1 ?_ ?_
  · refine s_aload_n o dX11_goOutOf_62 rfl 0 rfl ?_
    refine s_dup o dX11_goOutOf_63 (vA_cat (mg Γ) 21) ?_
    refine r_tgf vI rfl o hT tf_seen tj_seen (lw_all_tbl q2559) dX11_goOutOf_64 (fun v2 hv2 => ?_)
    refine s_aload_n o dX11_goOutOf_67 rfl 0 rfl ?_
    refine s_tga (x := 33) o hT tf_giveCounts ta_giveCounts (lw_all_tbl q2526) dX11_goOutOf_68 ?_
    refine s_iload_n o dX11_goOutOf_71 rfl 1 rfl ?_
    refine r_tiald o hT tr_giveCounts hl1 dX11_goOutOf_72 (fun v3 hv3 => ?_)
    refine s_isub o dX11_goOutOf_73 ?_
    refine r_tpf vI rfl o hT tf_seen tj_seen (lw_all_tbl q2559) dX11_goOutOf_74 (w32_R _) ty_int ?_
    exact s_vret o rfl dX11_goOutOf_77 (fun _ hh => hh)
  · refine s_aload_n o dX11_goOutOf_28 rfl 0 rfl ?_
    refine s_tga (x := 25) o hT tf_firsts ta_firsts (lw_all_tbl q2518) dX11_goOutOf_29 ?_
    refine s_iload_n o dX11_goOutOf_32 rfl 1 rfl ?_
    refine r_tiald o hT tr_firsts hl1 dX11_goOutOf_33 (fun v4 hv4 => ?_)
    refine r_istore_n o dX11_goOutOf_34 rfl rfl ⟨(Nat.ne_of_beq_eq_false rfl), (fun _ => (vA_cat (mg Γ) 21)), ⟨(Nat.ne_of_beq_eq_false rfl), (fun _ => rfl), trivial⟩⟩ ?_
    refine r_to [(0, vA (mg Γ) 21), (2, vI v4)] [1, 0] rfl ?_
    refine st_goOutOf_35 hT o _ ?_ v4 hv4
    · refine s_goto (tgt := 77) o dX11_goOutOf_59 (by decide) ?_
      exact s_vret o rfl dX11_goOutOf_77 (fun _ hh => hh)
noncomputable def t_goOutOf (l1 : Int) : Mo TS Int :=
  bnd (rd 47 3200 l1) fun v1 =>
  if v1 < 0 then
    t_goOutOf_19 l1
  else
    bnd (gs 58) fun v2 =>
    bnd (ss 58 (w32 (v2 - 1))) fun _ =>
    t_goOutOf_19 l1
theorem st_goOutOf (g : gC) (d : Nat) (h : CH) (hT : HT h) (l1 : Int) (hl1 : R32 l1) : SF g yX11_goOutOf (Cond.code yX11_goOutOf cX11_goOutOf 3 (Option.none : Option Jvm.ClassFile.FieldType)) (Option.none : Option Jvm.ClassFile.FieldType) (d + 0) [vA g 21, vI l1] (fun t => (h, t)) (t_goOutOf l1) := by
  refine SF.of (lv := [(0, vA g 21), (1, vI l1)]) (by decide) (wt_A (wt_I wt_0)) rfl (by simp only [la_A, la_I, la_J, la_0]) (fun Γ hg hnm o => ?_)
  subst hg
  have o : Ok Γ "LazyForgeModel" cX11_goOutOf 3 (Option.none : Option Jvm.ClassFile.FieldType) (d + 0) := o
  unfold t_goOutOf
  refine s_aload_n o dX11_goOutOf_0 rfl 0 rfl ?_
  refine s_tga (x := 45) o hT tf_functionOf ta_functionOf (lw_all_tbl q2551) dX11_goOutOf_1 ?_
  refine s_iload_n o dX11_goOutOf_4 rfl 1 rfl ?_
  refine r_tiald o hT tr_functionOf hl1 dX11_goOutOf_5 (fun v1 hv1 => ?_)
  refine s_if_lt (tgt := 19) o dX11_goOutOf_6 (by decide) hv1 ?_ ?_
  · exact st_goOutOf_19 hT o l1 hl1
  · refine s_aload_n o dX11_goOutOf_9 rfl 0 rfl ?_
    refine s_dup o dX11_goOutOf_10 (vA_cat (mg Γ) 21) ?_
    refine r_tgf vI rfl o hT tf_around tj_around (lw_all_tbl q2562) dX11_goOutOf_11 (fun v2 hv2 => ?_)
    refine s_iconst o dX11_goOutOf_14 ?_
    refine s_isub o dX11_goOutOf_15 ?_
    refine r_tpf vI rfl o hT tf_around tj_around (lw_all_tbl q2562) dX11_goOutOf_16 (w32_R _) ty_int ?_
    exact st_goOutOf_19 hT o l1 hl1
theorem dX11_rowCount_0 : decode cX11_rowCount 0 = .ok (.iconst 0, 1) := by decide +kernel
theorem dX11_rowCount_1 : decode cX11_rowCount 1 = .ok (.istore_n 2, 1) := by decide +kernel
theorem dX11_rowCount_2 : decode cX11_rowCount 2 = .ok (.aload_n 0, 1) := by decide +kernel
theorem dX11_rowCount_3 : decode cX11_rowCount 3 = .ok (.getfield 19, 3) := by decide +kernel
theorem dX11_rowCount_6 : decode cX11_rowCount 6 = .ok (.iload_n 1, 1) := by decide +kernel
theorem dX11_rowCount_7 : decode cX11_rowCount 7 = .ok (.iaload, 1) := by decide +kernel
theorem dX11_rowCount_8 : decode cX11_rowCount 8 = .ok (.istore_n 3, 1) := by decide +kernel
theorem dX11_rowCount_9 : decode cX11_rowCount 9 = .ok (.iload_n 3, 1) := by decide +kernel
theorem dX11_rowCount_10 : decode cX11_rowCount 10 = .ok (.ifCond .lt 16, 3) := by decide +kernel
theorem dX11_rowCount_13 : decode cX11_rowCount 13 = .ok (.iinc 2 1, 3) := by decide +kernel
theorem dX11_rowCount_16 : decode cX11_rowCount 16 = .ok (.aload_n 0, 1) := by decide +kernel
theorem dX11_rowCount_17 : decode cX11_rowCount 17 = .ok (.getfield 25, 3) := by decide +kernel
theorem dX11_rowCount_20 : decode cX11_rowCount 20 = .ok (.iload_n 3, 1) := by decide +kernel
theorem dX11_rowCount_21 : decode cX11_rowCount 21 = .ok (.iaload, 1) := by decide +kernel
theorem dX11_rowCount_22 : decode cX11_rowCount 22 = .ok (.istore_n 3, 1) := by decide +kernel
theorem dX11_rowCount_23 : decode cX11_rowCount 23 = .ok (.goto (-14), 3) := by decide +kernel
theorem dX11_rowCount_26 : decode cX11_rowCount 26 = .ok (.iload_n 2, 1) := by decide +kernel
theorem dX11_rowCount_27 : decode cX11_rowCount 27 = .ok (.ireturn, 1) := by decide +kernel
theorem mw_X11_rowCount : MW yX11_rowCount (Cond.code yX11_rowCount cX11_rowCount 4 (Option.some Jvm.ClassFile.FieldType.int)) cX11_rowCount 4 (Option.some Jvm.ClassFile.FieldType.int) 1 := ⟨rfl, ⟨(lw_all_tbl q3176), rfl, (lw_all_tbl q173)⟩, rfl, ⟨by decide, by decide⟩, by decide +kernel⟩
abbrev okt_rowCount_9 (x : Int × Int) : Prop := R32 x.1 ∧ R32 x.2
abbrev lvt_rowCount_9 (Γ : Gm) (x : Int × Int) : List (Nat × Value) := [(0, vA (mg Γ) 21), (2, vI x.1), (3, vI x.2)]
noncomputable def t_rowCount_9b {A : Type} (k_26 : Int → Mo TS A) (l2 : Int) (l3 : Int) : Mo TS ((Int × Int) ⊕ A) :=
  if l3 < 0 then
    lo (k_26 l2)
  else
    bnd (rd 16 3200 l3) fun v1 =>
    pr (.inl ((w32 (l2 + 1)), v1))
theorem st_rowCount_9b {Γ : Gm} {h : CH} {d : Nat} (hT : HT h) (o : Ok Γ "LazyForgeModel" cX11_rowCount 4 (Option.some Jvm.ClassFile.FieldType.int) (d + 0)) {A : Type} {K : A → TS → Prop} (k_26 : Int → Mo TS A) (hk_26 : ∀ (l2 : Int), R32 l2 → Sx Γ (fun t => (h, t)) K 26 [(2, vI l2)] [] (k_26 l2)) (l2 : Int) (l3 : Int) (hl2 : R32 l2) (hl3 : R32 l3) : Sx Γ (fun t => (h, t)) (KL Γ (fun t => (h, t)) okt_rowCount_9 K 9 (lvt_rowCount_9 Γ) []) 9 [(0, vA (mg Γ) 21), (2, vI l2), (3, vI l3)] [] (t_rowCount_9b k_26 l2 l3) := by
  unfold t_rowCount_9b
  refine s_iload_n o dX11_rowCount_9 rfl 2 rfl ?_
  refine s_if_lt (tgt := 26) o dX11_rowCount_10 (by decide) hl3 ?_ ?_
  · refine r_to [(2, vI l2)] [1] rfl ?_
    exact s_lo (hk_26 l2 hl2)
  · refine r_iinc (j := 1) o dX11_rowCount_13 rfl rfl [(0, vA (mg Γ) 21), (3, vI l3)] [0, 2] rfl ⟨(Nat.ne_of_beq_eq_false rfl), (fun _ => (vA_cat (mg Γ) 21)), ⟨(Nat.ne_of_beq_eq_false rfl), (fun _ => rfl), trivial⟩⟩ ?_
    refine s_aload_n o dX11_rowCount_16 rfl 1 rfl ?_
    refine s_tga (x := 27) o hT tf_nexts ta_nexts (lw_all_tbl q2520) dX11_rowCount_17 ?_
    refine s_iload_n o dX11_rowCount_20 rfl 2 rfl ?_
    refine r_tiald o hT tr_nexts hl3 dX11_rowCount_21 (fun v1 hv1 => ?_)
    refine r_istore_nP o dX11_rowCount_22 rfl rfl [(2, vI (w32 (l2 + 1))), (0, vA (mg Γ) 21)] [0, 1] rfl ⟨(Nat.ne_of_beq_eq_false rfl), (fun _ => rfl), ⟨(Nat.ne_of_beq_eq_false rfl), (fun _ => (vA_cat (mg Γ) 21)), trivial⟩⟩ ?_
    refine s_goto (tgt := 9) o dX11_rowCount_23 (by decide) ?_
    refine r_to [(0, vA (mg Γ) 21), (2, vI (w32 (l2 + 1))), (3, vI v1)] [2, 1, 0] rfl ?_
    exact s_back (⟨(w32_R _), hv1⟩) rfl
noncomputable def t_rowCount_9 {A : Type} (k_26 : Int → Mo TS A) (l2 : Int) (l3 : Int) : Mo TS A := Loop (fun x => t_rowCount_9b k_26 x.1 x.2) (l2, l3)
theorem st_rowCount_9 {Γ : Gm} {h : CH} {d : Nat} (hT : HT h) (o : Ok Γ "LazyForgeModel" cX11_rowCount 4 (Option.some Jvm.ClassFile.FieldType.int) (d + 0)) {A : Type} {K : A → TS → Prop} (k_26 : Int → Mo TS A) (hk_26 : ∀ (l2 : Int), R32 l2 → Sx Γ (fun t => (h, t)) K 26 [(2, vI l2)] [] (k_26 l2)) (l2 : Int) (l3 : Int) (hl2 : R32 l2) (hl3 : R32 l3) : Sx Γ (fun t => (h, t)) K 9 [(0, vA (mg Γ) 21), (2, vI l2), (3, vI l3)] [] (t_rowCount_9 k_26 l2 l3) :=
  s_loop okt_rowCount_9 (lvt_rowCount_9 Γ) (fun x hx => st_rowCount_9b hT o k_26 hk_26 x.1 x.2 hx.1 hx.2) (x := (l2, l3)) ⟨hl2, hl3⟩
noncomputable def t_rowCount (l1 : Int) : Mo TS Int :=
  bnd (rd 14 3200 l1) fun v1 =>
  t_rowCount_9
    (fun v2 => pr v2) 0 v1
theorem st_rowCount (g : gC) (d : Nat) (h : CH) (hT : HT h) (l1 : Int) (hl1 : R32 l1) : SF g yX11_rowCount (Cond.code yX11_rowCount cX11_rowCount 4 (Option.some Jvm.ClassFile.FieldType.int)) (Option.some Jvm.ClassFile.FieldType.int) (d + 0) [vA g 21, vI l1] (fun t => (h, t)) (t_rowCount l1) := by
  refine SF.of (lv := [(0, vA g 21), (1, vI l1)]) (by decide) (wt_A (wt_I wt_0)) rfl (by simp only [la_A, la_I, la_J, la_0]) (fun Γ hg hnm o => ?_)
  subst hg
  have o : Ok Γ "LazyForgeModel" cX11_rowCount 4 (Option.some Jvm.ClassFile.FieldType.int) (d + 0) := o
  unfold t_rowCount
  refine s_iconst o dX11_rowCount_0 ?_
  refine r_istore_n o dX11_rowCount_1 rfl rfl ⟨(Nat.ne_of_beq_eq_false rfl), (fun _ => (vA_cat (mg Γ) 21)), ⟨(Nat.ne_of_beq_eq_false rfl), (fun _ => rfl), trivial⟩⟩ ?_
  refine s_aload_n o dX11_rowCount_2 rfl 1 rfl ?_
  refine s_tga (x := 25) o hT tf_firsts ta_firsts (lw_all_tbl q2518) dX11_rowCount_3 ?_
  refine s_iload_n o dX11_rowCount_6 rfl 2 rfl ?_
  refine r_tiald o hT tr_firsts hl1 dX11_rowCount_7 (fun v1 hv1 => ?_)
  refine r_istore_n o dX11_rowCount_8 rfl rfl ⟨(Nat.ne_of_beq_eq_false rfl), (fun _ => rfl), ⟨(Nat.ne_of_beq_eq_false rfl), (fun _ => (vA_cat (mg Γ) 21)), ⟨(Nat.ne_of_beq_eq_false rfl), (fun _ => rfl), trivial⟩⟩⟩ ?_
  refine r_to [(0, vA (mg Γ) 21), (2, vI 0), (3, vI v1)] [2, 1, 0] rfl ?_
  refine st_rowCount_9 hT o _ ?_ 0 v1 (r32 rfl) hv1
  · intro v2 hv2
    refine s_iload_n o dX11_rowCount_26 rfl 0 rfl ?_
    exact s_iret o rfl i_int hv2 dX11_rowCount_27 (fun _ hh => hh)
theorem dX11_lift_0 : decode cX11_lift 0 = .ok (.aload_n 0, 1) := by decide +kernel
theorem dX11_lift_1 : decode cX11_lift 1 = .ok (.getfield 520, 3) := by decide +kernel
theorem dX11_lift_4 : decode cX11_lift 4 = .ok (.istore 4, 2) := by decide +kernel
theorem dX11_lift_6 : decode cX11_lift 6 = .ok (.aload_n 0, 1) := by decide +kernel
theorem dX11_lift_7 : decode cX11_lift 7 = .ok (.dup, 1) := by decide +kernel
theorem dX11_lift_8 : decode cX11_lift 8 = .ok (.getfield 520, 3) := by decide +kernel
theorem dX11_lift_11 : decode cX11_lift 11 = .ok (.iconst 1, 1) := by decide +kernel
theorem dX11_lift_12 : decode cX11_lift 12 = .ok (.iadd, 1) := by decide +kernel
theorem dX11_lift_13 : decode cX11_lift 13 = .ok (.putfield 520, 3) := by decide +kernel
theorem dX11_lift_16 : decode cX11_lift 16 = .ok (.aload_n 0, 1) := by decide +kernel
theorem dX11_lift_17 : decode cX11_lift 17 = .ok (.getfield 119, 3) := by decide +kernel
theorem dX11_lift_20 : decode cX11_lift 20 = .ok (.iload 4, 2) := by decide +kernel
theorem dX11_lift_22 : decode cX11_lift 22 = .ok (.iload_n 1, 1) := by decide +kernel
theorem dX11_lift_23 : decode cX11_lift 23 = .ok (.iastore, 1) := by decide +kernel
theorem dX11_lift_24 : decode cX11_lift 24 = .ok (.aload_n 0, 1) := by decide +kernel
theorem dX11_lift_25 : decode cX11_lift 25 = .ok (.getfield 122, 3) := by decide +kernel
theorem dX11_lift_28 : decode cX11_lift 28 = .ok (.iload 4, 2) := by decide +kernel
theorem dX11_lift_30 : decode cX11_lift 30 = .ok (.iload_n 2, 1) := by decide +kernel
theorem dX11_lift_31 : decode cX11_lift 31 = .ok (.iastore, 1) := by decide +kernel
theorem dX11_lift_32 : decode cX11_lift 32 = .ok (.aload_n 0, 1) := by decide +kernel
theorem dX11_lift_33 : decode cX11_lift 33 = .ok (.getfield 125, 3) := by decide +kernel
theorem dX11_lift_36 : decode cX11_lift 36 = .ok (.iload 4, 2) := by decide +kernel
theorem dX11_lift_38 : decode cX11_lift 38 = .ok (.aload_n 0, 1) := by decide +kernel
theorem dX11_lift_39 : decode cX11_lift 39 = .ok (.getfield 523, 3) := by decide +kernel
theorem dX11_lift_42 : decode cX11_lift 42 = .ok (.iastore, 1) := by decide +kernel
theorem dX11_lift_43 : decode cX11_lift 43 = .ok (.aload_n 0, 1) := by decide +kernel
theorem dX11_lift_44 : decode cX11_lift 44 = .ok (.getfield 128, 3) := by decide +kernel
theorem dX11_lift_47 : decode cX11_lift 47 = .ok (.iload 4, 2) := by decide +kernel
theorem dX11_lift_49 : decode cX11_lift 49 = .ok (.iload_n 3, 1) := by decide +kernel
theorem dX11_lift_50 : decode cX11_lift 50 = .ok (.iastore, 1) := by decide +kernel
theorem dX11_lift_51 : decode cX11_lift 51 = .ok (.aload_n 0, 1) := by decide +kernel
theorem dX11_lift_52 : decode cX11_lift 52 = .ok (.getfield 131, 3) := by decide +kernel
theorem dX11_lift_55 : decode cX11_lift 55 = .ok (.iload 4, 2) := by decide +kernel
theorem dX11_lift_57 : decode cX11_lift 57 = .ok (.iconst 0, 1) := by decide +kernel
theorem dX11_lift_58 : decode cX11_lift 58 = .ok (.iastore, 1) := by decide +kernel
theorem dX11_lift_59 : decode cX11_lift 59 = .ok (.aload_n 0, 1) := by decide +kernel
theorem dX11_lift_60 : decode cX11_lift 60 = .ok (.getfield 134, 3) := by decide +kernel
theorem dX11_lift_63 : decode cX11_lift 63 = .ok (.iload 4, 2) := by decide +kernel
theorem dX11_lift_65 : decode cX11_lift 65 = .ok (.iconst 0, 1) := by decide +kernel
theorem dX11_lift_66 : decode cX11_lift 66 = .ok (.bastore, 1) := by decide +kernel
theorem dX11_lift_67 : decode cX11_lift 67 = .ok (.aload_n 0, 1) := by decide +kernel
theorem dX11_lift_68 : decode cX11_lift 68 = .ok (.dup, 1) := by decide +kernel
theorem dX11_lift_69 : decode cX11_lift 69 = .ok (.getfield 523, 3) := by decide +kernel
theorem dX11_lift_72 : decode cX11_lift 72 = .ok (.iload_n 3, 1) := by decide +kernel
theorem dX11_lift_73 : decode cX11_lift 73 = .ok (.iadd, 1) := by decide +kernel
theorem dX11_lift_74 : decode cX11_lift 74 = .ok (.putfield 523, 3) := by decide +kernel
theorem dX11_lift_77 : decode cX11_lift 77 = .ok (.aload_n 0, 1) := by decide +kernel
theorem dX11_lift_78 : decode cX11_lift 78 = .ok (.dup, 1) := by decide +kernel
theorem dX11_lift_79 : decode cX11_lift 79 = .ok (.getfield 526, 3) := by decide +kernel
theorem dX11_lift_82 : decode cX11_lift 82 = .ok (.iload_n 3, 1) := by decide +kernel
theorem dX11_lift_83 : decode cX11_lift 83 = .ok (.isub, 1) := by decide +kernel
theorem dX11_lift_84 : decode cX11_lift 84 = .ok (.putfield 526, 3) := by decide +kernel
theorem dX11_lift_87 : decode cX11_lift 87 = .ok (.iconst 0, 1) := by decide +kernel
theorem dX11_lift_88 : decode cX11_lift 88 = .ok (.istore 5, 2) := by decide +kernel
theorem dX11_lift_90 : decode cX11_lift 90 = .ok (.iload_n 1, 1) := by decide +kernel
theorem dX11_lift_91 : decode cX11_lift 91 = .ok (.bipush 13, 2) := by decide +kernel
theorem dX11_lift_93 : decode cX11_lift 93 = .ok (.if_icmp .ne 9, 3) := by decide +kernel
theorem dX11_lift_96 : decode cX11_lift 96 = .ok (.lconst 1, 1) := by decide +kernel
theorem dX11_lift_97 : decode cX11_lift 97 = .ok (.iload_n 2, 1) := by decide +kernel
theorem dX11_lift_98 : decode cX11_lift 98 = .ok (.lshl, 1) := by decide +kernel
theorem dX11_lift_99 : decode cX11_lift 99 = .ok (.goto 4, 3) := by decide +kernel
theorem dX11_lift_102 : decode cX11_lift 102 = .ok (.lconst 0, 1) := by decide +kernel
theorem dX11_lift_103 : decode cX11_lift 103 = .ok (.lstore 6, 2) := by decide +kernel
theorem dX11_lift_105 : decode cX11_lift 105 = .ok (.iconst 0, 1) := by decide +kernel
theorem dX11_lift_106 : decode cX11_lift 106 = .ok (.istore 8, 2) := by decide +kernel
theorem dX11_lift_108 : decode cX11_lift 108 = .ok (.iload 8, 2) := by decide +kernel
theorem dX11_lift_110 : decode cX11_lift 110 = .ok (.iload_n 3, 1) := by decide +kernel
theorem dX11_lift_111 : decode cX11_lift 111 = .ok (.if_icmp .ge 78, 3) := by decide +kernel
theorem dX11_lift_114 : decode cX11_lift 114 = .ok (.aload_n 0, 1) := by decide +kernel
theorem dX11_lift_115 : decode cX11_lift 115 = .ok (.getfield 174, 3) := by decide +kernel
theorem dX11_lift_118 : decode cX11_lift 118 = .ok (.aload_n 0, 1) := by decide +kernel
theorem dX11_lift_119 : decode cX11_lift 119 = .ok (.getfield 526, 3) := by decide +kernel
theorem dX11_lift_122 : decode cX11_lift 122 = .ok (.iload 8, 2) := by decide +kernel
theorem dX11_lift_124 : decode cX11_lift 124 = .ok (.iadd, 1) := by decide +kernel
theorem dX11_lift_125 : decode cX11_lift 125 = .ok (.iaload, 1) := by decide +kernel
theorem dX11_lift_126 : decode cX11_lift 126 = .ok (.istore 9, 2) := by decide +kernel
theorem dX11_lift_128 : decode cX11_lift 128 = .ok (.aload_n 0, 1) := by decide +kernel
theorem dX11_lift_129 : decode cX11_lift 129 = .ok (.getfield 147, 3) := by decide +kernel
theorem dX11_lift_132 : decode cX11_lift 132 = .ok (.aload_n 0, 1) := by decide +kernel
theorem dX11_lift_133 : decode cX11_lift 133 = .ok (.getfield 125, 3) := by decide +kernel
theorem dX11_lift_136 : decode cX11_lift 136 = .ok (.iload 4, 2) := by decide +kernel
theorem dX11_lift_138 : decode cX11_lift 138 = .ok (.iaload, 1) := by decide +kernel
theorem dX11_lift_139 : decode cX11_lift 139 = .ok (.iload 8, 2) := by decide +kernel
theorem dX11_lift_141 : decode cX11_lift 141 = .ok (.iadd, 1) := by decide +kernel
theorem dX11_lift_142 : decode cX11_lift 142 = .ok (.iload 9, 2) := by decide +kernel
theorem dX11_lift_144 : decode cX11_lift 144 = .ok (.iastore, 1) := by decide +kernel
theorem dX11_lift_145 : decode cX11_lift 145 = .ok (.aload_n 0, 1) := by decide +kernel
theorem dX11_lift_146 : decode cX11_lift 146 = .ok (.getfield 138, 3) := by decide +kernel
theorem dX11_lift_149 : decode cX11_lift 149 = .ok (.iload 9, 2) := by decide +kernel
theorem dX11_lift_151 : decode cX11_lift 151 = .ok (.iaload, 1) := by decide +kernel
theorem dX11_lift_152 : decode cX11_lift 152 = .ok (.iload 5, 2) := by decide +kernel
theorem dX11_lift_154 : decode cX11_lift 154 = .ok (.if_icmp .le 13, 3) := by decide +kernel
theorem dX11_lift_157 : decode cX11_lift 157 = .ok (.aload_n 0, 1) := by decide +kernel
theorem dX11_lift_158 : decode cX11_lift 158 = .ok (.getfield 138, 3) := by decide +kernel
theorem dX11_lift_161 : decode cX11_lift 161 = .ok (.iload 9, 2) := by decide +kernel
theorem dX11_lift_163 : decode cX11_lift 163 = .ok (.iaload, 1) := by decide +kernel
theorem dX11_lift_164 : decode cX11_lift 164 = .ok (.goto 5, 3) := by decide +kernel
theorem dX11_lift_167 : decode cX11_lift 167 = .ok (.iload 5, 2) := by decide +kernel
theorem dX11_lift_169 : decode cX11_lift 169 = .ok (.istore 5, 2) := by decide +kernel
theorem dX11_lift_171 : decode cX11_lift 171 = .ok (.lload 6, 2) := by decide +kernel
theorem dX11_lift_173 : decode cX11_lift 173 = .ok (.aload_n 0, 1) := by decide +kernel
theorem dX11_lift_174 : decode cX11_lift 174 = .ok (.getfield 144, 3) := by decide +kernel
theorem dX11_lift_177 : decode cX11_lift 177 = .ok (.iload 9, 2) := by decide +kernel
theorem dX11_lift_179 : decode cX11_lift 179 = .ok (.laload, 1) := by decide +kernel
theorem dX11_lift_180 : decode cX11_lift 180 = .ok (.lor, 1) := by decide +kernel
theorem dX11_lift_181 : decode cX11_lift 181 = .ok (.lstore 6, 2) := by decide +kernel
theorem dX11_lift_183 : decode cX11_lift 183 = .ok (.iinc 8 1, 3) := by decide +kernel
theorem dX11_lift_186 : decode cX11_lift 186 = .ok (.goto (-78), 3) := by decide +kernel
theorem dX11_lift_189 : decode cX11_lift 189 = .ok (.aload_n 0, 1) := by decide +kernel
theorem dX11_lift_190 : decode cX11_lift 190 = .ok (.getfield 138, 3) := by decide +kernel
theorem dX11_lift_193 : decode cX11_lift 193 = .ok (.iload 4, 2) := by decide +kernel
theorem dX11_lift_195 : decode cX11_lift 195 = .ok (.iload 5, 2) := by decide +kernel
theorem dX11_lift_197 : decode cX11_lift 197 = .ok (.iconst 1, 1) := by decide +kernel
theorem dX11_lift_198 : decode cX11_lift 198 = .ok (.iadd, 1) := by decide +kernel
theorem dX11_lift_199 : decode cX11_lift 199 = .ok (.iastore, 1) := by decide +kernel
theorem dX11_lift_200 : decode cX11_lift 200 = .ok (.aload_n 0, 1) := by decide +kernel
theorem dX11_lift_201 : decode cX11_lift 201 = .ok (.getfield 144, 3) := by decide +kernel
theorem dX11_lift_204 : decode cX11_lift 204 = .ok (.iload 4, 2) := by decide +kernel
theorem dX11_lift_206 : decode cX11_lift 206 = .ok (.lload 6, 2) := by decide +kernel
theorem dX11_lift_208 : decode cX11_lift 208 = .ok (.lastore, 1) := by decide +kernel
theorem dX11_lift_209 : decode cX11_lift 209 = .ok (.aload_n 0, 1) := by decide +kernel
theorem dX11_lift_210 : decode cX11_lift 210 = .ok (.getfield 174, 3) := by decide +kernel
theorem dX11_lift_213 : decode cX11_lift 213 = .ok (.aload_n 0, 1) := by decide +kernel
theorem dX11_lift_214 : decode cX11_lift 214 = .ok (.getfield 526, 3) := by decide +kernel
theorem dX11_lift_217 : decode cX11_lift 217 = .ok (.iload 4, 2) := by decide +kernel
theorem dX11_lift_219 : decode cX11_lift 219 = .ok (.iastore, 1) := by decide +kernel
theorem dX11_lift_220 : decode cX11_lift 220 = .ok (.aload_n 0, 1) := by decide +kernel
theorem dX11_lift_221 : decode cX11_lift 221 = .ok (.dup, 1) := by decide +kernel
theorem dX11_lift_222 : decode cX11_lift 222 = .ok (.getfield 526, 3) := by decide +kernel
theorem dX11_lift_225 : decode cX11_lift 225 = .ok (.iconst 1, 1) := by decide +kernel
theorem dX11_lift_226 : decode cX11_lift 226 = .ok (.iadd, 1) := by decide +kernel
theorem dX11_lift_227 : decode cX11_lift 227 = .ok (.putfield 526, 3) := by decide +kernel
theorem dX11_lift_230 : decode cX11_lift 230 = .ok (.iload 4, 2) := by decide +kernel
theorem dX11_lift_232 : decode cX11_lift 232 = .ok (.ireturn, 1) := by decide +kernel
theorem mw_X11_lift : MW yX11_lift (Cond.code yX11_lift cX11_lift 10 (Option.some Jvm.ClassFile.FieldType.int)) cX11_lift 10 (Option.some Jvm.ClassFile.FieldType.int) 3 := ⟨rfl, ⟨(lw_all_tbl q3180), rfl, (lw_all_tbl q173)⟩, rfl, ⟨by decide, by decide⟩, by decide +kernel⟩
abbrev okt_lift_108 (x : Int × Int × Int × Int × Int) : Prop := R32 x.1 ∧ R32 x.2.1 ∧ R32 x.2.2.1 ∧ R64 x.2.2.2.1 ∧ R32 x.2.2.2.2
abbrev lvt_lift_108 (Γ : Gm) (x : Int × Int × Int × Int × Int) : List (Nat × Value) := [(0, vA (mg Γ) 21), (3, vI x.1), (4, vI x.2.1), (5, vI x.2.2.1), (6, vJ x.2.2.2.1), (8, vI x.2.2.2.2)]
noncomputable def t_lift_169 {A : Type} (k_189 : Int → Int → Int → Mo TS A) (l3 : Int) (l4 : Int) (l6 : Int) (l8 : Int) (l9 : Int) (k0 : Int) : Mo TS ((Int × Int × Int × Int × Int) ⊕ A) :=
  bnd (rd 72 7000 l9) fun v1 =>
  pr (.inl (l3, l4, k0, (lor l6 v1), (w32 (l8 + 1))))
theorem st_lift_169 {Γ : Gm} {h : CH} {d : Nat} (hT : HT h) (o : Ok Γ "LazyForgeModel" cX11_lift 10 (Option.some Jvm.ClassFile.FieldType.int) (d + 0)) {A : Type} {K : A → TS → Prop}  (k_189 : Int → Int → Int → Mo TS A) (hk_189 : ∀ (l4 : Int) (l5 : Int) (l6 : Int), R32 l4 → R32 l5 → R64 l6 → Sx Γ (fun t => (h, t)) K 189 [(0, vA (mg Γ) 21), (4, vI l4), (5, vI l5), (6, vJ l6)] [] (k_189 l4 l5 l6)) (l3 : Int) (l4 : Int) (l6 : Int) (l8 : Int) (l9 : Int) (k0 : Int) (hl3 : R32 l3) (hl4 : R32 l4) (hl6 : R64 l6) (hl8 : R32 l8) (hl9 : R32 l9) (hk0 : R32 k0) : Sx Γ (fun t => (h, t)) (KL Γ (fun t => (h, t)) okt_lift_108 K 108 (lvt_lift_108 Γ) []) 169 [(0, vA (mg Γ) 21), (3, vI l3), (4, vI l4), (6, vJ l6), (8, vI l8), (9, vI l9)] [vI k0] (t_lift_169 k_189 l3 l4 l6 l8 l9 k0) := by
  unfold t_lift_169
  refine r_istore o dX11_lift_169 rfl ⟨(Nat.ne_of_beq_eq_false rfl), (fun _ => (vA_cat (mg Γ) 21)), ⟨(Nat.ne_of_beq_eq_false rfl), (fun _ => rfl), ⟨(Nat.ne_of_beq_eq_false rfl), (fun _ => rfl), ⟨(Nat.ne_of_beq_eq_false rfl), (fun e => absurd e (Nat.ne_of_beq_eq_false rfl)), ⟨(Nat.ne_of_beq_eq_false rfl), (fun _ => rfl), ⟨(Nat.ne_of_beq_eq_false rfl), (fun _ => rfl), trivial⟩⟩⟩⟩⟩⟩ ?_
  refine s_lload o dX11_lift_171 4 rfl ?_
  refine s_aload_n o dX11_lift_173 rfl 1 rfl ?_
  refine s_tga (x := 66) o hT tf_outside ta_outside (lw_all_tbl q2576) dX11_lift_174 ?_
  refine s_iload o dX11_lift_177 6 rfl ?_
  refine r_tlald o hT tr_outside hl9 dX11_lift_179 (fun v1 hv1 => ?_)
  refine s_lor o dX11_lift_180 ?_
  refine r_lstoreP o dX11_lift_181 rfl [(5, vI k0), (0, vA (mg Γ) 21), (3, vI l3), (4, vI l4), (8, vI l8), (9, vI l9)] [0, 1, 2, 3, 5, 6] rfl ⟨(Nat.ne_of_beq_eq_false rfl), (Nat.ne_of_beq_eq_false rfl), (fun _ => rfl), ⟨(Nat.ne_of_beq_eq_false rfl), (Nat.ne_of_beq_eq_false rfl), (fun _ => (vA_cat (mg Γ) 21)), ⟨(Nat.ne_of_beq_eq_false rfl), (Nat.ne_of_beq_eq_false rfl), (fun _ => rfl), ⟨(Nat.ne_of_beq_eq_false rfl), (Nat.ne_of_beq_eq_false rfl), (fun _ => rfl), ⟨(Nat.ne_of_beq_eq_false rfl), (Nat.ne_of_beq_eq_false rfl), (fun _ => rfl), ⟨(Nat.ne_of_beq_eq_false rfl), (Nat.ne_of_beq_eq_false rfl), (fun _ => rfl), trivial⟩⟩⟩⟩⟩⟩ ?_
  refine r_iinc (j := 5) o dX11_lift_183 rfl rfl [(6, vJ (lor l6 v1)), (5, vI k0), (0, vA (mg Γ) 21), (3, vI l3), (4, vI l4), (9, vI l9)] [0, 1, 2, 3, 4, 6] rfl ⟨(Nat.ne_of_beq_eq_false rfl), (fun e => absurd e (Nat.ne_of_beq_eq_false rfl)), ⟨(Nat.ne_of_beq_eq_false rfl), (fun _ => rfl), ⟨(Nat.ne_of_beq_eq_false rfl), (fun _ => (vA_cat (mg Γ) 21)), ⟨(Nat.ne_of_beq_eq_false rfl), (fun _ => rfl), ⟨(Nat.ne_of_beq_eq_false rfl), (fun _ => rfl), ⟨(Nat.ne_of_beq_eq_false rfl), (fun _ => rfl), trivial⟩⟩⟩⟩⟩⟩ ?_
  refine s_goto (tgt := 108) o dX11_lift_186 (by decide) ?_
  refine r_to [(0, vA (mg Γ) 21), (3, vI l3), (4, vI l4), (5, vI k0), (6, vJ (lor l6 v1)), (8, vI (w32 (l8 + 1)))] [3, 4, 5, 2, 1, 0] rfl ?_
  exact s_back (⟨hl3, hl4, hk0, (lor_R _ _), (w32_R _)⟩) rfl
noncomputable def t_lift_108b {A : Type} (k_189 : Int → Int → Int → Mo TS A) (l3 : Int) (l4 : Int) (l5 : Int) (l6 : Int) (l8 : Int) : Mo TS ((Int × Int × Int × Int × Int) ⊕ A) :=
  if l3 ≤ l8 then
    lo (k_189 l4 l5 l6)
  else
    bnd (gs 83) fun v1 =>
    bnd (rd 84 7000 (w32 (v1 + l8))) fun v2 =>
    bnd (rd 66 7000 l4) fun v3 =>
    bnd (wr 74 14000 (w32 (v3 + l8)) v2) fun _ =>
    bnd (rd 70 7000 v2) fun v4 =>
    if v4 ≤ l5 then
      t_lift_169 k_189 l3 l4 l6 l8 v2 l5
    else
      bnd (rd 70 7000 v2) fun v5 =>
      t_lift_169 k_189 l3 l4 l6 l8 v2 v5
theorem st_lift_108b {Γ : Gm} {h : CH} {d : Nat} (hT : HT h) (o : Ok Γ "LazyForgeModel" cX11_lift 10 (Option.some Jvm.ClassFile.FieldType.int) (d + 0)) {A : Type} {K : A → TS → Prop} (k_189 : Int → Int → Int → Mo TS A) (hk_189 : ∀ (l4 : Int) (l5 : Int) (l6 : Int), R32 l4 → R32 l5 → R64 l6 → Sx Γ (fun t => (h, t)) K 189 [(0, vA (mg Γ) 21), (4, vI l4), (5, vI l5), (6, vJ l6)] [] (k_189 l4 l5 l6)) (l3 : Int) (l4 : Int) (l5 : Int) (l6 : Int) (l8 : Int) (hl3 : R32 l3) (hl4 : R32 l4) (hl5 : R32 l5) (hl6 : R64 l6) (hl8 : R32 l8) : Sx Γ (fun t => (h, t)) (KL Γ (fun t => (h, t)) okt_lift_108 K 108 (lvt_lift_108 Γ) []) 108 [(0, vA (mg Γ) 21), (3, vI l3), (4, vI l4), (5, vI l5), (6, vJ l6), (8, vI l8)] [] (t_lift_108b k_189 l3 l4 l5 l6 l8) := by
  unfold t_lift_108b
  refine s_iload o dX11_lift_108 5 rfl ?_
  refine s_iload_n o dX11_lift_110 rfl 1 rfl ?_
  refine s_icmp_ge (tgt := 189) o dX11_lift_111 (by decide) hl8 hl3 ?_ ?_
  · refine r_to [(0, vA (mg Γ) 21), (4, vI l4), (5, vI l5), (6, vJ l6)] [0, 2, 3, 4] rfl ?_
    exact s_lo (hk_189 l4 l5 l6 hl4 hl5 hl6)
  · refine s_aload_n o dX11_lift_114 rfl 0 rfl ?_
    refine s_tga (x := 76) o hT tf_heldNodes ta_heldNodes (lw_all_tbl q2588) dX11_lift_115 ?_
    refine s_aload_n o dX11_lift_118 rfl 0 rfl ?_
    refine r_tgf vI rfl o hT tf_held tj_held (lw_all_tbl q2587) dX11_lift_119 (fun v1 hv1 => ?_)
    refine s_iload o dX11_lift_122 5 rfl ?_
    refine s_iadd o dX11_lift_124 ?_
    refine r_tiald o hT tr_heldNodes (w32_R _) dX11_lift_125 (fun v2 hv2 => ?_)
    refine r_istore o dX11_lift_126 rfl ⟨(Nat.ne_of_beq_eq_false rfl), (fun _ => (vA_cat (mg Γ) 21)), ⟨(Nat.ne_of_beq_eq_false rfl), (fun _ => rfl), ⟨(Nat.ne_of_beq_eq_false rfl), (fun _ => rfl), ⟨(Nat.ne_of_beq_eq_false rfl), (fun _ => rfl), ⟨(Nat.ne_of_beq_eq_false rfl), (fun e => absurd e (Nat.ne_of_beq_eq_false rfl)), ⟨(Nat.ne_of_beq_eq_false rfl), (fun _ => rfl), trivial⟩⟩⟩⟩⟩⟩ ?_
    refine s_aload_n o dX11_lift_128 rfl 1 rfl ?_
    refine s_tga (x := 67) o hT tf_liftChildren ta_liftChildren (lw_all_tbl q2578) dX11_lift_129 ?_
    refine s_aload_n o dX11_lift_132 rfl 1 rfl ?_
    refine s_tga (x := 60) o hT tf_liftBegins ta_liftBegins (lw_all_tbl q2570) dX11_lift_133 ?_
    refine s_iload o dX11_lift_136 3 rfl ?_
    refine r_tiald o hT tr_liftBegins hl4 dX11_lift_138 (fun v3 hv3 => ?_)
    refine s_iload o dX11_lift_139 6 rfl ?_
    refine s_iadd o dX11_lift_141 ?_
    refine s_iload o dX11_lift_142 0 rfl ?_
    refine r_tiast o hT tr_liftChildren (w32_R _) hv2 dX11_lift_144 ?_
    refine s_aload_n o dX11_lift_145 rfl 1 rfl ?_
    refine s_tga (x := 64) o hT tf_heights ta_heights (lw_all_tbl q2574) dX11_lift_146 ?_
    refine s_iload o dX11_lift_149 0 rfl ?_
    refine r_tiald o hT tr_heights hv2 dX11_lift_151 (fun v4 hv4 => ?_)
    refine s_iload o dX11_lift_152 4 rfl ?_
    refine s_icmp_le (tgt := 167) o dX11_lift_154 (by decide) hv4 hl5 ?_ ?_
    · refine s_iload o dX11_lift_167 4 rfl ?_
      refine r_to [(0, vA (mg Γ) 21), (3, vI l3), (4, vI l4), (6, vJ l6), (8, vI l8), (9, vI v2)] [1, 2, 3, 5, 6, 0] rfl ?_
      exact st_lift_169 hT o k_189 hk_189 l3 l4 l6 l8 v2 l5 hl3 hl4 hl6 hl8 hv2 hl5
    · refine s_aload_n o dX11_lift_157 rfl 1 rfl ?_
      refine s_tga (x := 64) o hT tf_heights ta_heights (lw_all_tbl q2574) dX11_lift_158 ?_
      refine s_iload o dX11_lift_161 0 rfl ?_
      refine r_tiald o hT tr_heights hv2 dX11_lift_163 (fun v5 hv5 => ?_)
      refine s_goto (tgt := 169) o dX11_lift_164 (by decide) ?_
      refine r_to [(0, vA (mg Γ) 21), (3, vI l3), (4, vI l4), (6, vJ l6), (8, vI l8), (9, vI v2)] [1, 2, 3, 5, 6, 0] rfl ?_
      exact st_lift_169 hT o k_189 hk_189 l3 l4 l6 l8 v2 v5 hl3 hl4 hl6 hl8 hv2 hv5
noncomputable def t_lift_108 {A : Type} (k_189 : Int → Int → Int → Mo TS A) (l3 : Int) (l4 : Int) (l5 : Int) (l6 : Int) (l8 : Int) : Mo TS A := Loop (fun x => t_lift_108b k_189 x.1 x.2.1 x.2.2.1 x.2.2.2.1 x.2.2.2.2) (l3, l4, l5, l6, l8)
theorem st_lift_108 {Γ : Gm} {h : CH} {d : Nat} (hT : HT h) (o : Ok Γ "LazyForgeModel" cX11_lift 10 (Option.some Jvm.ClassFile.FieldType.int) (d + 0)) {A : Type} {K : A → TS → Prop} (k_189 : Int → Int → Int → Mo TS A) (hk_189 : ∀ (l4 : Int) (l5 : Int) (l6 : Int), R32 l4 → R32 l5 → R64 l6 → Sx Γ (fun t => (h, t)) K 189 [(0, vA (mg Γ) 21), (4, vI l4), (5, vI l5), (6, vJ l6)] [] (k_189 l4 l5 l6)) (l3 : Int) (l4 : Int) (l5 : Int) (l6 : Int) (l8 : Int) (hl3 : R32 l3) (hl4 : R32 l4) (hl5 : R32 l5) (hl6 : R64 l6) (hl8 : R32 l8) : Sx Γ (fun t => (h, t)) K 108 [(0, vA (mg Γ) 21), (3, vI l3), (4, vI l4), (5, vI l5), (6, vJ l6), (8, vI l8)] [] (t_lift_108 k_189 l3 l4 l5 l6 l8) :=
  s_loop okt_lift_108 (lvt_lift_108 Γ) (fun x hx => st_lift_108b hT o k_189 hk_189 x.1 x.2.1 x.2.2.1 x.2.2.2.1 x.2.2.2.2 hx.1 hx.2.1 hx.2.2.1 hx.2.2.2.1 hx.2.2.2.2) (x := (l3, l4, l5, l6, l8)) ⟨hl3, hl4, hl5, hl6, hl8⟩
noncomputable def t_lift_103  (l3 : Int) (l4 : Int) (l5 : Int) (k0 : Int) : Mo TS Int :=
  t_lift_108
    (fun v1 v2 v3 => bnd (wr 70 7000 v1 (w32 (v2 + 1))) fun _ =>
  bnd (wr 72 7000 v1 v3) fun _ =>
  bnd (gs 83) fun v4 =>
  bnd (wr 84 7000 v4 v1) fun _ =>
  bnd (gs 83) fun v5 =>
  bnd (ss 83 (w32 (v5 + 1))) fun _ =>
  pr v1) l3 l4 l5 k0 0
theorem st_lift_103 {Γ : Gm} {h : CH} {d : Nat} (hT : HT h) (o : Ok Γ "LazyForgeModel" cX11_lift 10 (Option.some Jvm.ClassFile.FieldType.int) (d + 0))   (l3 : Int) (l4 : Int) (l5 : Int) (k0 : Int) (hl3 : R32 l3) (hl4 : R32 l4) (hl5 : rg .boolean l5) (hk0 : R64 k0) : Sx Γ (fun t => (h, t)) (fun a s => mt Γ = (0, a, ((h, s) : Wd))) 103 [(0, vA (mg Γ) 21), (3, vI l3), (4, vI l4), (5, vI l5)] [vJ k0] (t_lift_103 l3 l4 l5 k0) := by
  unfold t_lift_103
  refine r_lstore o dX11_lift_103 rfl ⟨(Nat.ne_of_beq_eq_false rfl), (Nat.ne_of_beq_eq_false rfl), (fun _ => (vA_cat (mg Γ) 21)), ⟨(Nat.ne_of_beq_eq_false rfl), (Nat.ne_of_beq_eq_false rfl), (fun _ => rfl), ⟨(Nat.ne_of_beq_eq_false rfl), (Nat.ne_of_beq_eq_false rfl), (fun _ => rfl), ⟨(Nat.ne_of_beq_eq_false rfl), (Nat.ne_of_beq_eq_false rfl), (fun _ => rfl), trivial⟩⟩⟩⟩ ?_
  refine s_iconst o dX11_lift_105 ?_
  refine r_istore o dX11_lift_106 rfl ⟨(Nat.ne_of_beq_eq_false rfl), (fun e => absurd e (Nat.ne_of_beq_eq_false rfl)), ⟨(Nat.ne_of_beq_eq_false rfl), (fun _ => (vA_cat (mg Γ) 21)), ⟨(Nat.ne_of_beq_eq_false rfl), (fun _ => rfl), ⟨(Nat.ne_of_beq_eq_false rfl), (fun _ => rfl), ⟨(Nat.ne_of_beq_eq_false rfl), (fun _ => rfl), trivial⟩⟩⟩⟩⟩ ?_
  refine r_to [(0, vA (mg Γ) 21), (3, vI l3), (4, vI l4), (5, vI l5), (6, vJ k0), (8, vI 0)] [2, 3, 4, 5, 1, 0] rfl ?_
  refine st_lift_108 hT o _ ?_ l3 l4 l5 k0 0 hl3 hl4 (rZ hl5) hk0 (r32 rfl)
  · intro v1 v2 v3 hv1 hv2 hv3
    refine s_aload_n o dX11_lift_189 rfl 0 rfl ?_
    refine s_tga (x := 64) o hT tf_heights ta_heights (lw_all_tbl q2574) dX11_lift_190 ?_
    refine s_iload o dX11_lift_193 1 rfl ?_
    refine s_iload o dX11_lift_195 2 rfl ?_
    refine s_iconst o dX11_lift_197 ?_
    refine s_iadd o dX11_lift_198 ?_
    refine r_tiast o hT tr_heights hv1 (w32_R _) dX11_lift_199 ?_
    refine s_aload_n o dX11_lift_200 rfl 0 rfl ?_
    refine s_tga (x := 66) o hT tf_outside ta_outside (lw_all_tbl q2576) dX11_lift_201 ?_
    refine s_iload o dX11_lift_204 1 rfl ?_
    refine s_lload o dX11_lift_206 3 rfl ?_
    refine r_tlast o hT tr_outside hv1 hv3 dX11_lift_208 ?_
    refine s_aload_n o dX11_lift_209 rfl 0 rfl ?_
    refine s_tga (x := 76) o hT tf_heldNodes ta_heldNodes (lw_all_tbl q2588) dX11_lift_210 ?_
    refine s_aload_n o dX11_lift_213 rfl 0 rfl ?_
    refine r_tgf vI rfl o hT tf_held tj_held (lw_all_tbl q2587) dX11_lift_214 (fun v4 hv4 => ?_)
    refine s_iload o dX11_lift_217 1 rfl ?_
    refine r_tiast o hT tr_heldNodes hv4 hv1 dX11_lift_219 ?_
    refine s_aload_n o dX11_lift_220 rfl 0 rfl ?_
    refine s_dup o dX11_lift_221 (vA_cat (mg Γ) 21) ?_
    refine r_tgf vI rfl o hT tf_held tj_held (lw_all_tbl q2587) dX11_lift_222 (fun v5 hv5 => ?_)
    refine s_iconst o dX11_lift_225 ?_
    refine s_iadd o dX11_lift_226 ?_
    refine r_tpf vI rfl o hT tf_held tj_held (lw_all_tbl q2587) dX11_lift_227 (w32_R _) ty_int ?_
    refine s_iload o dX11_lift_230 1 rfl ?_
    exact s_iret o rfl i_int hv1 dX11_lift_232 (fun _ hh => hh)
noncomputable def t_lift (l1 : Int) (l2 : Int) (l3 : Int) : Mo TS Int :=
  bnd (gs 63) fun v1 =>
  bnd (gs 63) fun v2 =>
  bnd (ss 63 (w32 (v2 + 1))) fun _ =>
  bnd (wr 64 7000 v1 l1) fun _ =>
  bnd (wr 65 7000 v1 l2) fun _ =>
  bnd (gs 73) fun v3 =>
  bnd (wr 66 7000 v1 v3) fun _ =>
  bnd (wr 67 7000 v1 l3) fun _ =>
  bnd (wr 68 7000 v1 0) fun _ =>
  bnd (wr 69 7000 v1 0) fun _ =>
  bnd (gs 73) fun v4 =>
  bnd (ss 73 (w32 (v4 + l3))) fun _ =>
  bnd (gs 83) fun v5 =>
  bnd (ss 83 (w32 (v5 - l3))) fun _ =>
  if ¬ l1 = 13 then
    t_lift_103 l3 v1 0 0
  else
    t_lift_103 l3 v1 0 (lshl 1 l2)
theorem st_lift (g : gC) (d : Nat) (h : CH) (hT : HT h) (l1 : Int) (l2 : Int) (l3 : Int) (hl1 : R32 l1) (hl2 : R32 l2) (hl3 : R32 l3) : SF g yX11_lift (Cond.code yX11_lift cX11_lift 10 (Option.some Jvm.ClassFile.FieldType.int)) (Option.some Jvm.ClassFile.FieldType.int) (d + 0) [vA g 21, vI l1, vI l2, vI l3] (fun t => (h, t)) (t_lift l1 l2 l3) := by
  refine SF.of (lv := [(0, vA g 21), (1, vI l1), (2, vI l2), (3, vI l3)]) (by decide) (wt_A (wt_I (wt_I (wt_I wt_0)))) rfl (by simp only [la_A, la_I, la_J, la_0]) (fun Γ hg hnm o => ?_)
  subst hg
  have o : Ok Γ "LazyForgeModel" cX11_lift 10 (Option.some Jvm.ClassFile.FieldType.int) (d + 0) := o
  unfold t_lift
  refine s_aload_n o dX11_lift_0 rfl 0 rfl ?_
  refine r_tgf vI rfl o hT tf_lifted tj_lifted (lw_all_tbl q2567) dX11_lift_1 (fun v1 hv1 => ?_)
  refine r_istore o dX11_lift_4 rfl ⟨(Nat.ne_of_beq_eq_false rfl), (fun _ => (vA_cat (mg Γ) 21)), ⟨(Nat.ne_of_beq_eq_false rfl), (fun _ => rfl), ⟨(Nat.ne_of_beq_eq_false rfl), (fun _ => rfl), ⟨(Nat.ne_of_beq_eq_false rfl), (fun _ => rfl), trivial⟩⟩⟩⟩ ?_
  refine s_aload_n o dX11_lift_6 rfl 1 rfl ?_
  refine s_dup o dX11_lift_7 (vA_cat (mg Γ) 21) ?_
  refine r_tgf vI rfl o hT tf_lifted tj_lifted (lw_all_tbl q2567) dX11_lift_8 (fun v2 hv2 => ?_)
  refine s_iconst o dX11_lift_11 ?_
  refine s_iadd o dX11_lift_12 ?_
  refine r_tpf vI rfl o hT tf_lifted tj_lifted (lw_all_tbl q2567) dX11_lift_13 (w32_R _) ty_int ?_
  refine s_aload_n o dX11_lift_16 rfl 1 rfl ?_
  refine s_tga (x := 58) o hT tf_liftKinds ta_liftKinds (lw_all_tbl q2568) dX11_lift_17 ?_
  refine s_iload o dX11_lift_20 0 rfl ?_
  refine s_iload_n o dX11_lift_22 rfl 2 rfl ?_
  refine r_tiast o hT tr_liftKinds hv1 hl1 dX11_lift_23 ?_
  refine s_aload_n o dX11_lift_24 rfl 1 rfl ?_
  refine s_tga (x := 59) o hT tf_liftValues ta_liftValues (lw_all_tbl q2569) dX11_lift_25 ?_
  refine s_iload o dX11_lift_28 0 rfl ?_
  refine s_iload_n o dX11_lift_30 rfl 3 rfl ?_
  refine r_tiast o hT tr_liftValues hv1 hl2 dX11_lift_31 ?_
  refine s_aload_n o dX11_lift_32 rfl 1 rfl ?_
  refine s_tga (x := 60) o hT tf_liftBegins ta_liftBegins (lw_all_tbl q2570) dX11_lift_33 ?_
  refine s_iload o dX11_lift_36 0 rfl ?_
  refine s_aload_n o dX11_lift_38 rfl 1 rfl ?_
  refine r_tgf vI rfl o hT tf_childTop tj_childTop (lw_all_tbl q2577) dX11_lift_39 (fun v3 hv3 => ?_)
  refine r_tiast o hT tr_liftBegins hv1 hv3 dX11_lift_42 ?_
  refine s_aload_n o dX11_lift_43 rfl 1 rfl ?_
  refine s_tga (x := 61) o hT tf_liftCounts ta_liftCounts (lw_all_tbl q2571) dX11_lift_44 ?_
  refine s_iload o dX11_lift_47 0 rfl ?_
  refine s_iload_n o dX11_lift_49 rfl 4 rfl ?_
  refine r_tiast o hT tr_liftCounts hv1 hl3 dX11_lift_50 ?_
  refine s_aload_n o dX11_lift_51 rfl 1 rfl ?_
  refine s_tga (x := 62) o hT tf_liftVariables ta_liftVariables (lw_all_tbl q2572) dX11_lift_52 ?_
  refine s_iload o dX11_lift_55 0 rfl ?_
  refine s_iconst o dX11_lift_57 ?_
  refine r_tiast o hT tr_liftVariables hv1 (r32 rfl) dX11_lift_58 ?_
  refine s_aload_n o dX11_lift_59 rfl 1 rfl ?_
  refine s_tga (x := 63) o hT tf_liftNeeds ta_liftNeeds (lw_all_tbl q2573) dX11_lift_60 ?_
  refine s_iload o dX11_lift_63 0 rfl ?_
  refine s_iconst o dX11_lift_65 ?_
  refine r_tzast o hT tr_liftNeeds hv1 (Or.inl rfl) dX11_lift_66 ?_
  refine s_aload_n o dX11_lift_67 rfl 1 rfl ?_
  refine s_dup o dX11_lift_68 (vA_cat (mg Γ) 21) ?_
  refine r_tgf vI rfl o hT tf_childTop tj_childTop (lw_all_tbl q2577) dX11_lift_69 (fun v4 hv4 => ?_)
  refine s_iload_n o dX11_lift_72 rfl 4 rfl ?_
  refine s_iadd o dX11_lift_73 ?_
  refine r_tpf vI rfl o hT tf_childTop tj_childTop (lw_all_tbl q2577) dX11_lift_74 (w32_R _) ty_int ?_
  refine s_aload_n o dX11_lift_77 rfl 1 rfl ?_
  refine s_dup o dX11_lift_78 (vA_cat (mg Γ) 21) ?_
  refine r_tgf vI rfl o hT tf_held tj_held (lw_all_tbl q2587) dX11_lift_79 (fun v5 hv5 => ?_)
  refine s_iload_n o dX11_lift_82 rfl 4 rfl ?_
  refine s_isub o dX11_lift_83 ?_
  refine r_tpf vI rfl o hT tf_held tj_held (lw_all_tbl q2587) dX11_lift_84 (w32_R _) ty_int ?_
  refine s_iconst o dX11_lift_87 ?_
  refine r_istore o dX11_lift_88 rfl ⟨(Nat.ne_of_beq_eq_false rfl), (fun _ => rfl), ⟨(Nat.ne_of_beq_eq_false rfl), (fun _ => (vA_cat (mg Γ) 21)), ⟨(Nat.ne_of_beq_eq_false rfl), (fun _ => rfl), ⟨(Nat.ne_of_beq_eq_false rfl), (fun _ => rfl), ⟨(Nat.ne_of_beq_eq_false rfl), (fun _ => rfl), trivial⟩⟩⟩⟩⟩ ?_
  refine s_iload_n o dX11_lift_90 rfl 3 rfl ?_
  refine s_bipush o dX11_lift_91 rfl ?_
  refine s_icmp_ne (tgt := 102) o dX11_lift_93 (by decide) hl1 (r32 rfl) ?_ ?_
  · refine s_lconst (x := 0) o dX11_lift_102 rfl ?_
    refine r_to [(0, vA (mg Γ) 21), (3, vI l3), (4, vI v1), (5, vI 0)] [2, 5, 1, 0] rfl ?_
    exact st_lift_103 hT o l3 v1 0 0 hl3 hv1 (Or.inl rfl) (r64 rfl)
  · refine s_lconst (x := 1) o dX11_lift_96 rfl ?_
    refine s_iload_n o dX11_lift_97 rfl 4 rfl ?_
    refine s_lshl o dX11_lift_98 ?_
    refine s_goto (tgt := 103) o dX11_lift_99 (by decide) ?_
    refine r_to [(0, vA (mg Γ) 21), (3, vI l3), (4, vI v1), (5, vI 0)] [2, 5, 1, 0] rfl ?_
    exact st_lift_103 hT o l3 v1 0 (lshl 1 l2) hl3 hv1 (Or.inl rfl) (lshl_R _ _)
theorem dX11_local_0 : decode cX11_local 0 = .ok (.aload_n 0, 1) := by decide +kernel
theorem dX11_local_1 : decode cX11_local 1 = .ok (.getfield 89, 3) := by decide +kernel
theorem dX11_local_4 : decode cX11_local 4 = .ok (.iload_n 2, 1) := by decide +kernel
theorem dX11_local_5 : decode cX11_local 5 = .ok (.iaload, 1) := by decide +kernel
theorem dX11_local_6 : decode cX11_local 6 = .ok (.iload_n 1, 1) := by decide +kernel
theorem dX11_local_7 : decode cX11_local 7 = .ok (.if_icmp .ne 17, 3) := by decide +kernel
theorem dX11_local_10 : decode cX11_local 10 = .ok (.aload_n 0, 1) := by decide +kernel
theorem dX11_local_11 : decode cX11_local 11 = .ok (.getfield 83, 3) := by decide +kernel
theorem dX11_local_14 : decode cX11_local 14 = .ok (.iload_n 1, 1) := by decide +kernel
theorem dX11_local_15 : decode cX11_local 15 = .ok (.iaload, 1) := by decide +kernel
theorem dX11_local_16 : decode cX11_local 16 = .ok (.aload_n 0, 1) := by decide +kernel
theorem dX11_local_17 : decode cX11_local 17 = .ok (.getfield 92, 3) := by decide +kernel
theorem dX11_local_20 : decode cX11_local 20 = .ok (.iload_n 2, 1) := by decide +kernel
theorem dX11_local_21 : decode cX11_local 21 = .ok (.iaload, 1) := by decide +kernel
theorem dX11_local_22 : decode cX11_local 22 = .ok (.iadd, 1) := by decide +kernel
theorem dX11_local_23 : decode cX11_local 23 = .ok (.ireturn, 1) := by decide +kernel
theorem dX11_local_24 : decode cX11_local 24 = .ok (.iconst 0, 1) := by decide +kernel
theorem dX11_local_25 : decode cX11_local 25 = .ok (.istore_n 3, 1) := by decide +kernel
theorem dX11_local_26 : decode cX11_local 26 = .ok (.aload_n 0, 1) := by decide +kernel
theorem dX11_local_27 : decode cX11_local 27 = .ok (.getfield 86, 3) := by decide +kernel
theorem dX11_local_30 : decode cX11_local 30 = .ok (.bipush 9, 2) := by decide +kernel
theorem dX11_local_32 : decode cX11_local 32 = .ok (.iload_n 1, 1) := by decide +kernel
theorem dX11_local_33 : decode cX11_local 33 = .ok (.imul, 1) := by decide +kernel
theorem dX11_local_34 : decode cX11_local 34 = .ok (.iload_n 3, 1) := by decide +kernel
theorem dX11_local_35 : decode cX11_local 35 = .ok (.iadd, 1) := by decide +kernel
theorem dX11_local_36 : decode cX11_local 36 = .ok (.iaload, 1) := by decide +kernel
theorem dX11_local_37 : decode cX11_local 37 = .ok (.iload_n 2, 1) := by decide +kernel
theorem dX11_local_38 : decode cX11_local 38 = .ok (.if_icmp .eq 9, 3) := by decide +kernel
theorem dX11_local_41 : decode cX11_local 41 = .ok (.iinc 3 1, 3) := by decide +kernel
theorem dX11_local_44 : decode cX11_local 44 = .ok (.goto (-18), 3) := by decide +kernel
theorem dX11_local_47 : decode cX11_local 47 = .ok (.iload_n 3, 1) := by decide +kernel
theorem dX11_local_48 : decode cX11_local 48 = .ok (.ireturn, 1) := by decide +kernel
theorem mw_X11_local : MW yX11_local (Cond.code yX11_local cX11_local 4 (Option.some Jvm.ClassFile.FieldType.int)) cX11_local 4 (Option.some Jvm.ClassFile.FieldType.int) 2 := ⟨rfl, ⟨(lw_all_tbl q3184), rfl, (lw_all_tbl q173)⟩, rfl, ⟨by decide, by decide⟩, by decide +kernel⟩
abbrev okt_local_26 (x : Int × Int × Int) : Prop := R32 x.1 ∧ R32 x.2.1 ∧ R32 x.2.2
abbrev lvt_local_26 (Γ : Gm) (x : Int × Int × Int) : List (Nat × Value) := [(0, vA (mg Γ) 21), (1, vI x.1), (2, vI x.2.1), (3, vI x.2.2)]
noncomputable def t_local_26b {A : Type} (k_47 : Int → Mo TS A) (l1 : Int) (l2 : Int) (l3 : Int) : Mo TS ((Int × Int × Int) ⊕ A) :=
  bnd (rd 49 5760 (w32 ((w32 (9 * l1)) + l3))) fun v1 =>
  if v1 = l2 then
    lo (k_47 l3)
  else
    pr (.inl (l1, l2, (w32 (l3 + 1))))
theorem st_local_26b {Γ : Gm} {h : CH} {d : Nat} (hT : HT h) (o : Ok Γ "LazyForgeModel" cX11_local 4 (Option.some Jvm.ClassFile.FieldType.int) (d + 0)) {A : Type} {K : A → TS → Prop} (k_47 : Int → Mo TS A) (hk_47 : ∀ (l3 : Int), R32 l3 → Sx Γ (fun t => (h, t)) K 47 [(3, vI l3)] [] (k_47 l3)) (l1 : Int) (l2 : Int) (l3 : Int) (hl1 : R32 l1) (hl2 : R32 l2) (hl3 : R32 l3) : Sx Γ (fun t => (h, t)) (KL Γ (fun t => (h, t)) okt_local_26 K 26 (lvt_local_26 Γ) []) 26 [(0, vA (mg Γ) 21), (1, vI l1), (2, vI l2), (3, vI l3)] [] (t_local_26b k_47 l1 l2 l3) := by
  unfold t_local_26b
  refine s_aload_n o dX11_local_26 rfl 0 rfl ?_
  refine s_tga (x := 47) o hT tf_frees ta_frees (lw_all_tbl q2553) dX11_local_27 ?_
  refine s_bipush o dX11_local_30 rfl ?_
  refine s_iload_n o dX11_local_32 rfl 1 rfl ?_
  refine s_imul o dX11_local_33 ?_
  refine s_iload_n o dX11_local_34 rfl 3 rfl ?_
  refine s_iadd o dX11_local_35 ?_
  refine r_tiald o hT tr_frees (w32_R _) dX11_local_36 (fun v1 hv1 => ?_)
  refine s_iload_n o dX11_local_37 rfl 2 rfl ?_
  refine s_icmp_eq (tgt := 47) o dX11_local_38 (by decide) hv1 hl2 ?_ ?_
  · refine r_to [(3, vI l3)] [3] rfl ?_
    exact s_lo (hk_47 l3 hl3)
  · refine r_iinc (j := 3) o dX11_local_41 rfl rfl [(0, vA (mg Γ) 21), (1, vI l1), (2, vI l2)] [0, 1, 2] rfl ⟨(Nat.ne_of_beq_eq_false rfl), (fun _ => (vA_cat (mg Γ) 21)), ⟨(Nat.ne_of_beq_eq_false rfl), (fun _ => rfl), ⟨(Nat.ne_of_beq_eq_false rfl), (fun _ => rfl), trivial⟩⟩⟩ ?_
    refine s_goto (tgt := 26) o dX11_local_44 (by decide) ?_
    refine r_to [(0, vA (mg Γ) 21), (1, vI l1), (2, vI l2), (3, vI (w32 (l3 + 1)))] [1, 2, 3, 0] rfl ?_
    exact s_back (⟨hl1, hl2, (w32_R _)⟩) rfl
noncomputable def t_local_26 {A : Type} (k_47 : Int → Mo TS A) (l1 : Int) (l2 : Int) (l3 : Int) : Mo TS A := Loop (fun x => t_local_26b k_47 x.1 x.2.1 x.2.2) (l1, l2, l3)
theorem st_local_26 {Γ : Gm} {h : CH} {d : Nat} (hT : HT h) (o : Ok Γ "LazyForgeModel" cX11_local 4 (Option.some Jvm.ClassFile.FieldType.int) (d + 0)) {A : Type} {K : A → TS → Prop} (k_47 : Int → Mo TS A) (hk_47 : ∀ (l3 : Int), R32 l3 → Sx Γ (fun t => (h, t)) K 47 [(3, vI l3)] [] (k_47 l3)) (l1 : Int) (l2 : Int) (l3 : Int) (hl1 : R32 l1) (hl2 : R32 l2) (hl3 : R32 l3) : Sx Γ (fun t => (h, t)) K 26 [(0, vA (mg Γ) 21), (1, vI l1), (2, vI l2), (3, vI l3)] [] (t_local_26 k_47 l1 l2 l3) :=
  s_loop okt_local_26 (lvt_local_26 Γ) (fun x hx => st_local_26b hT o k_47 hk_47 x.1 x.2.1 x.2.2 hx.1 hx.2.1 hx.2.2) (x := (l1, l2, l3)) ⟨hl1, hl2, hl3⟩
noncomputable def t_local (l1 : Int) (l2 : Int) : Mo TS Int :=
  bnd (rd 51 3200 l2) fun v1 =>
  if ¬ v1 = l1 then
    t_local_26
      (fun v2 => pr v2) l1 l2 0
  else
    bnd (rd 48 640 l1) fun v3 =>
    bnd (rd 52 3200 l2) fun v4 =>
    pr (w32 (v3 + v4))
theorem st_local (g : gC) (d : Nat) (h : CH) (hT : HT h) (l1 : Int) (l2 : Int) (hl1 : R32 l1) (hl2 : R32 l2) : SF g yX11_local (Cond.code yX11_local cX11_local 4 (Option.some Jvm.ClassFile.FieldType.int)) (Option.some Jvm.ClassFile.FieldType.int) (d + 0) [vA g 21, vI l1, vI l2] (fun t => (h, t)) (t_local l1 l2) := by
  refine SF.of (lv := [(0, vA g 21), (1, vI l1), (2, vI l2)]) (by decide) (wt_A (wt_I (wt_I wt_0))) rfl (by simp only [la_A, la_I, la_J, la_0]) (fun Γ hg hnm o => ?_)
  subst hg
  have o : Ok Γ "LazyForgeModel" cX11_local 4 (Option.some Jvm.ClassFile.FieldType.int) (d + 0) := o
  unfold t_local
  refine s_aload_n o dX11_local_0 rfl 0 rfl ?_
  refine s_tga (x := 48) o hT tf_homes ta_homes (lw_all_tbl q2555) dX11_local_1 ?_
  refine s_iload_n o dX11_local_4 rfl 2 rfl ?_
  refine r_tiald o hT tr_homes hl2 dX11_local_5 (fun v1 hv1 => ?_)
  refine s_iload_n o dX11_local_6 rfl 1 rfl ?_
  refine s_icmp_ne (tgt := 24) o dX11_local_7 (by decide) hv1 hl1 ?_ ?_
  · refine s_iconst o dX11_local_24 ?_
    refine r_istore_n o dX11_local_25 rfl rfl ⟨(Nat.ne_of_beq_eq_false rfl), (fun _ => (vA_cat (mg Γ) 21)), ⟨(Nat.ne_of_beq_eq_false rfl), (fun _ => rfl), ⟨(Nat.ne_of_beq_eq_false rfl), (fun _ => rfl), trivial⟩⟩⟩ ?_
    refine r_to [(0, vA (mg Γ) 21), (1, vI l1), (2, vI l2), (3, vI 0)] [1, 2, 3, 0] rfl ?_
    refine st_local_26 hT o _ ?_ l1 l2 0 hl1 hl2 (r32 rfl)
    · intro v2 hv2
      refine s_iload_n o dX11_local_47 rfl 0 rfl ?_
      exact s_iret o rfl i_int hv2 dX11_local_48 (fun _ hh => hh)
  · refine s_aload_n o dX11_local_10 rfl 0 rfl ?_
    refine s_tga (x := 46) o hT tf_freeCounts ta_freeCounts (lw_all_tbl q2552) dX11_local_11 ?_
    refine s_iload_n o dX11_local_14 rfl 1 rfl ?_
    refine r_tiald o hT tr_freeCounts hl1 dX11_local_15 (fun v3 hv3 => ?_)
    refine s_aload_n o dX11_local_16 rfl 0 rfl ?_
    refine s_tga (x := 49) o hT tf_owns ta_owns (lw_all_tbl q2556) dX11_local_17 ?_
    refine s_iload_n o dX11_local_20 rfl 2 rfl ?_
    refine r_tiald o hT tr_owns hl2 dX11_local_21 (fun v4 hv4 => ?_)
    refine s_iadd o dX11_local_22 ?_
    exact s_iret o rfl i_int (w32_R _) dX11_local_23 (fun _ hh => hh)
theorem dX11_bits_0 : decode cX11_bits 0 = .ok (.lconst 1, 1) := by decide +kernel
theorem dX11_bits_1 : decode cX11_bits 1 = .ok (.iload_n 1, 1) := by decide +kernel
theorem dX11_bits_2 : decode cX11_bits 2 = .ok (.lshl, 1) := by decide +kernel
theorem dX11_bits_3 : decode cX11_bits 3 = .ok (.lconst 1, 1) := by decide +kernel
theorem dX11_bits_4 : decode cX11_bits 4 = .ok (.lsub, 1) := by decide +kernel
theorem dX11_bits_5 : decode cX11_bits 5 = .ok (.iload_n 0, 1) := by decide +kernel
theorem dX11_bits_6 : decode cX11_bits 6 = .ok (.lshl, 1) := by decide +kernel
theorem dX11_bits_7 : decode cX11_bits 7 = .ok (.lreturn, 1) := by decide +kernel
theorem mw_X11_bits : MW yX11_bits (Cond.code yX11_bits cX11_bits 2 (Option.some Jvm.ClassFile.FieldType.long)) cX11_bits 2 (Option.some Jvm.ClassFile.FieldType.long) 2 := ⟨rfl, ⟨(lw_all_tbl q3187), rfl, (lw_all_tbl q173)⟩, rfl, ⟨by decide, by decide⟩, by decide +kernel⟩
noncomputable def t_bits (l0 : Int) (l1 : Int) : Mo TS Int :=
  pr (lshl (w64 ((lshl 1 l1) - 1)) l0)
theorem st_bits (g : gC) (d : Nat) (h : CH) (l0 : Int) (l1 : Int) (hl0 : R32 l0) (hl1 : R32 l1) : SF g yX11_bits (Cond.code yX11_bits cX11_bits 2 (Option.some Jvm.ClassFile.FieldType.long)) (Option.some Jvm.ClassFile.FieldType.long) (d + 0) [vI l0, vI l1] (fun t => (h, t)) (t_bits l0 l1) := by
  refine SF.of (lv := [(0, vI l0), (1, vI l1)]) (by decide) (wt_I (wt_I wt_0)) rfl (by simp only [la_A, la_I, la_J, la_0]) (fun Γ hg hnm o => ?_)
  subst hg
  have o : Ok Γ "LazyForgeModel" cX11_bits 2 (Option.some Jvm.ClassFile.FieldType.long) (d + 0) := o
  unfold t_bits
  refine s_lconst (x := 1) o dX11_bits_0 rfl ?_
  refine s_iload_n o dX11_bits_1 rfl 1 rfl ?_
  refine s_lshl o dX11_bits_2 ?_
  refine s_lconst (x := 1) o dX11_bits_3 rfl ?_
  refine s_lsub o dX11_bits_4 ?_
  refine s_iload_n o dX11_bits_5 rfl 0 rfl ?_
  refine s_lshl o dX11_bits_6 ?_
  exact s_lret o rfl (lshl_R _ _) dX11_bits_7 (fun _ hh => hh)
theorem dX11_child_0 : decode cX11_child 0 = .ok (.aload_n 0, 1) := by decide +kernel
theorem dX11_child_1 : decode cX11_child 1 = .ok (.getfield 147, 3) := by decide +kernel
theorem dX11_child_4 : decode cX11_child 4 = .ok (.aload_n 0, 1) := by decide +kernel
theorem dX11_child_5 : decode cX11_child 5 = .ok (.getfield 125, 3) := by decide +kernel
theorem dX11_child_8 : decode cX11_child 8 = .ok (.iload_n 1, 1) := by decide +kernel
theorem dX11_child_9 : decode cX11_child 9 = .ok (.iaload, 1) := by decide +kernel
theorem dX11_child_10 : decode cX11_child 10 = .ok (.iload_n 2, 1) := by decide +kernel
theorem dX11_child_11 : decode cX11_child 11 = .ok (.iadd, 1) := by decide +kernel
theorem dX11_child_12 : decode cX11_child 12 = .ok (.iaload, 1) := by decide +kernel
theorem dX11_child_13 : decode cX11_child 13 = .ok (.ireturn, 1) := by decide +kernel
theorem mw_X11_child : MW yX11_child (Cond.code yX11_child cX11_child 3 (Option.some Jvm.ClassFile.FieldType.int)) cX11_child 3 (Option.some Jvm.ClassFile.FieldType.int) 2 := ⟨rfl, ⟨(lw_all_tbl q3192), rfl, (lw_all_tbl q173)⟩, rfl, ⟨by decide, by decide⟩, by decide +kernel⟩
noncomputable def t_child (l1 : Int) (l2 : Int) : Mo TS Int :=
  bnd (rd 66 7000 l1) fun v1 =>
  bnd (rd 74 14000 (w32 (v1 + l2))) fun v2 =>
  pr v2
theorem st_child (g : gC) (d : Nat) (h : CH) (hT : HT h) (l1 : Int) (l2 : Int) (hl1 : R32 l1) (hl2 : R32 l2) : SF g yX11_child (Cond.code yX11_child cX11_child 3 (Option.some Jvm.ClassFile.FieldType.int)) (Option.some Jvm.ClassFile.FieldType.int) (d + 0) [vA g 21, vI l1, vI l2] (fun t => (h, t)) (t_child l1 l2) := by
  refine SF.of (lv := [(0, vA g 21), (1, vI l1), (2, vI l2)]) (by decide) (wt_A (wt_I (wt_I wt_0))) rfl (by simp only [la_A, la_I, la_J, la_0]) (fun Γ hg hnm o => ?_)
  subst hg
  have o : Ok Γ "LazyForgeModel" cX11_child 3 (Option.some Jvm.ClassFile.FieldType.int) (d + 0) := o
  unfold t_child
  refine s_aload_n o dX11_child_0 rfl 0 rfl ?_
  refine s_tga (x := 67) o hT tf_liftChildren ta_liftChildren (lw_all_tbl q2578) dX11_child_1 ?_
  refine s_aload_n o dX11_child_4 rfl 0 rfl ?_
  refine s_tga (x := 60) o hT tf_liftBegins ta_liftBegins (lw_all_tbl q2570) dX11_child_5 ?_
  refine s_iload_n o dX11_child_8 rfl 1 rfl ?_
  refine r_tiald o hT tr_liftBegins hl1 dX11_child_9 (fun v1 hv1 => ?_)
  refine s_iload_n o dX11_child_10 rfl 2 rfl ?_
  refine s_iadd o dX11_child_11 ?_
  refine r_tiald o hT tr_liftChildren (w32_R _) dX11_child_12 (fun v2 hv2 => ?_)
  exact s_iret o rfl i_int hv2 dX11_child_13 (fun _ hh => hh)
theorem dX11_table_0 : decode cX11_table 0 = .ok (.aload_n 0, 1) := by decide +kernel
theorem dX11_table_1 : decode cX11_table 1 = .ok (.getfield 178, 3) := by decide +kernel
theorem dX11_table_4 : decode cX11_table 4 = .ok (.sipush 256, 3) := by decide +kernel
theorem dX11_table_7 : decode cX11_table 7 = .ok (.iload_n 1, 1) := by decide +kernel
theorem dX11_table_8 : decode cX11_table 8 = .ok (.imul, 1) := by decide +kernel
theorem dX11_table_9 : decode cX11_table 9 = .ok (.iload_n 2, 1) := by decide +kernel
theorem dX11_table_10 : decode cX11_table 10 = .ok (.iadd, 1) := by decide +kernel
theorem dX11_table_11 : decode cX11_table 11 = .ok (.baload, 1) := by decide +kernel
theorem dX11_table_12 : decode cX11_table 12 = .ok (.ireturn, 1) := by decide +kernel
theorem mw_X11_table : MW yX11_table (Cond.code yX11_table cX11_table 3 (Option.some Jvm.ClassFile.FieldType.boolean)) cX11_table 3 (Option.some Jvm.ClassFile.FieldType.boolean) 2 := ⟨rfl, ⟨(lw_all_tbl q3212), rfl, (lw_all_tbl q173)⟩, rfl, ⟨by decide, by decide⟩, by decide +kernel⟩
noncomputable def t_table (l1 : Int) (l2 : Int) : Mo TS Int :=
  bnd (rd 85 163840 (w32 ((w32 (256 * l1)) + l2))) fun v1 =>
  pr v1
theorem st_table (g : gC) (d : Nat) (h : CH) (hT : HT h) (l1 : Int) (l2 : Int) (hl1 : R32 l1) (hl2 : R32 l2) : SF g yX11_table (Cond.code yX11_table cX11_table 3 (Option.some Jvm.ClassFile.FieldType.boolean)) (Option.some Jvm.ClassFile.FieldType.boolean) (d + 0) [vA g 21, vI l1, vI l2] (fun t => (h, t)) (t_table l1 l2) := by
  refine SF.of (lv := [(0, vA g 21), (1, vI l1), (2, vI l2)]) (by decide) (wt_A (wt_I (wt_I wt_0))) rfl (by simp only [la_A, la_I, la_J, la_0]) (fun Γ hg hnm o => ?_)
  subst hg
  have o : Ok Γ "LazyForgeModel" cX11_table 3 (Option.some Jvm.ClassFile.FieldType.boolean) (d + 0) := o
  unfold t_table
  refine s_aload_n o dX11_table_0 rfl 0 rfl ?_
  refine s_tga (x := 77) o hT tf_tables ta_tables (lw_all_tbl q2589) dX11_table_1 ?_
  refine s_sipush o dX11_table_4 rfl ?_
  refine s_iload_n o dX11_table_7 rfl 1 rfl ?_
  refine s_imul o dX11_table_8 ?_
  refine s_iload_n o dX11_table_9 rfl 2 rfl ?_
  refine s_iadd o dX11_table_10 ?_
  refine r_tzald o hT tr_tables (w32_R _) dX11_table_11 (fun v1 hv1 => ?_)
  exact s_iret o rfl i_boolean hv1 dX11_table_12 (fun _ hh => hh)
theorem dX11_ends_0 : decode cX11_ends 0 = .ok (.aload_n 0, 1) := by decide +kernel
theorem dX11_ends_1 : decode cX11_ends 1 = .ok (.getfield 605, 3) := by decide +kernel
theorem dX11_ends_4 : decode cX11_ends 4 = .ok (.ifCond .ne 13, 3) := by decide +kernel
theorem dX11_ends_7 : decode cX11_ends 7 = .ok (.aload_n 0, 1) := by decide +kernel
theorem dX11_ends_8 : decode cX11_ends 8 = .ok (.iload_n 1, 1) := by decide +kernel
theorem dX11_ends_9 : decode cX11_ends 9 = .ok (.putfield 605, 3) := by decide +kernel
theorem dX11_ends_12 : decode cX11_ends 12 = .ok (.aload_n 0, 1) := by decide +kernel
theorem dX11_ends_13 : decode cX11_ends 13 = .ok (.iload_n 2, 1) := by decide +kernel
theorem dX11_ends_14 : decode cX11_ends 14 = .ok (.putfield 608, 3) := by decide +kernel
theorem dX11_ends_17 : decode cX11_ends 17 = .ok (.return_, 1) := by decide +kernel
theorem mw_X11_ends : MW yX11_ends (Cond.code yX11_ends cX11_ends 3 (Option.none : Option Jvm.ClassFile.FieldType)) cX11_ends 3 (Option.none : Option Jvm.ClassFile.FieldType) 2 := ⟨rfl, ⟨(lw_all_tbl q3241), rfl, (lw_all_tbl q173)⟩, rfl, ⟨by decide, by decide⟩, by decide +kernel⟩
noncomputable def t_ends (l1 : Int) (l2 : Int) : Mo TS Int :=
  bnd (gs 111) fun v1 =>
  if ¬ v1 = 0 then
    pr 0
  else
    bnd (ss 111 l1) fun _ =>
    bnd (ss 112 l2) fun _ =>
    pr 0
theorem st_ends (g : gC) (d : Nat) (h : CH) (hT : HT h) (l1 : Int) (l2 : Int) (hl1 : R32 l1) (hl2 : R32 l2) : SF g yX11_ends (Cond.code yX11_ends cX11_ends 3 (Option.none : Option Jvm.ClassFile.FieldType)) (Option.none : Option Jvm.ClassFile.FieldType) (d + 0) [vA g 21, vI l1, vI l2] (fun t => (h, t)) (t_ends l1 l2) := by
  refine SF.of (lv := [(0, vA g 21), (1, vI l1), (2, vI l2)]) (by decide) (wt_A (wt_I (wt_I wt_0))) rfl (by simp only [la_A, la_I, la_J, la_0]) (fun Γ hg hnm o => ?_)
  subst hg
  have o : Ok Γ "LazyForgeModel" cX11_ends 3 (Option.none : Option Jvm.ClassFile.FieldType) (d + 0) := o
  unfold t_ends
  refine s_aload_n o dX11_ends_0 rfl 0 rfl ?_
  refine r_tgf vI rfl o hT tf_how tj_how (lw_all_tbl q2615) dX11_ends_1 (fun v1 hv1 => ?_)
  refine s_if_ne (tgt := 17) o dX11_ends_4 (by decide) hv1 ?_ ?_
  · exact s_vret o rfl dX11_ends_17 (fun _ hh => hh)
  · refine s_aload_n o dX11_ends_7 rfl 0 rfl ?_
    refine s_iload_n o dX11_ends_8 rfl 1 rfl ?_
    refine r_tpf vI rfl o hT tf_how tj_how (lw_all_tbl q2615) dX11_ends_9 hl1 ty_int ?_
    refine s_aload_n o dX11_ends_12 rfl 0 rfl ?_
    refine s_iload_n o dX11_ends_13 rfl 2 rfl ?_
    refine r_tpf vI rfl o hT tf_why tj_why (lw_all_tbl q2616) dX11_ends_14 hl2 ty_int ?_
    exact s_vret o rfl dX11_ends_17 (fun _ hh => hh)
theorem dX11_value_0 : decode cX11_value 0 = .ok (.iload_n 0, 1) := by decide +kernel
theorem dX11_value_1 : decode cX11_value 1 = .ok (.i2l, 1) := by decide +kernel
theorem dX11_value_2 : decode cX11_value 2 = .ok (.bipush 32, 2) := by decide +kernel
theorem dX11_value_4 : decode cX11_value 4 = .ok (.lshl, 1) := by decide +kernel
theorem dX11_value_5 : decode cX11_value 5 = .ok (.iload_n 1, 1) := by decide +kernel
theorem dX11_value_6 : decode cX11_value 6 = .ok (.i2l, 1) := by decide +kernel
theorem dX11_value_7 : decode cX11_value 7 = .ok (.ldc2_w 603, 3) := by decide +kernel
theorem dX11_value_10 : decode cX11_value 10 = .ok (.land, 1) := by decide +kernel
theorem dX11_value_11 : decode cX11_value 11 = .ok (.lor, 1) := by decide +kernel
theorem dX11_value_12 : decode cX11_value 12 = .ok (.lreturn, 1) := by decide +kernel
theorem mw_X11_value : MW yX11_value (Cond.code yX11_value cX11_value 2 (Option.some Jvm.ClassFile.FieldType.long)) cX11_value 2 (Option.some Jvm.ClassFile.FieldType.long) 2 := ⟨rfl, ⟨(lw_all_tbl q3244), rfl, (lw_all_tbl q173)⟩, rfl, ⟨by decide, by decide⟩, by decide +kernel⟩
noncomputable def t_value (l0 : Int) (l1 : Int) : Mo TS Int :=
  pr (lor (lshl l0 32) (land l1 4294967295))
theorem st_value (g : gC) (d : Nat) (h : CH) (l0 : Int) (l1 : Int) (hl0 : R32 l0) (hl1 : R32 l1) : SF g yX11_value (Cond.code yX11_value cX11_value 2 (Option.some Jvm.ClassFile.FieldType.long)) (Option.some Jvm.ClassFile.FieldType.long) (d + 0) [vI l0, vI l1] (fun t => (h, t)) (t_value l0 l1) := by
  refine SF.of (lv := [(0, vI l0), (1, vI l1)]) (by decide) (wt_I (wt_I wt_0)) rfl (by simp only [la_A, la_I, la_J, la_0]) (fun Γ hg hnm o => ?_)
  subst hg
  have o : Ok Γ "LazyForgeModel" cX11_value 2 (Option.some Jvm.ClassFile.FieldType.long) (d + 0) := o
  unfold t_value
  refine s_iload_n o dX11_value_0 rfl 0 rfl ?_
  refine s_i2l o dX11_value_1 hl0 ?_
  refine s_bipush o dX11_value_2 rfl ?_
  refine s_lshl o dX11_value_4 ?_
  refine s_iload_n o dX11_value_5 rfl 1 rfl ?_
  refine s_i2l o dX11_value_6 hl1 ?_
  refine s_ldc2 (n := 4294967295) o dX11_value_7 (lw_all_tbl q3245) rfl ?_
  refine s_land o dX11_value_10 ?_
  refine s_lor o dX11_value_11 ?_
  exact s_lret o rfl (lor_R _ _) dX11_value_12 (fun _ hh => hh)
theorem dX11_kindOf_0 : decode cX11_kindOf 0 = .ok (.lload_n 0, 1) := by decide +kernel
theorem dX11_kindOf_1 : decode cX11_kindOf 1 = .ok (.bipush 32, 2) := by decide +kernel
theorem dX11_kindOf_3 : decode cX11_kindOf 3 = .ok (.lshr, 1) := by decide +kernel
theorem dX11_kindOf_4 : decode cX11_kindOf 4 = .ok (.l2i, 1) := by decide +kernel
theorem dX11_kindOf_5 : decode cX11_kindOf 5 = .ok (.ireturn, 1) := by decide +kernel
theorem mw_X11_kindOf : MW yX11_kindOf (Cond.code yX11_kindOf cX11_kindOf 2 (Option.some Jvm.ClassFile.FieldType.int)) cX11_kindOf 2 (Option.some Jvm.ClassFile.FieldType.int) 1 := ⟨rfl, ⟨(lw_all_tbl q3256), rfl, (lw_all_tbl q173)⟩, rfl, ⟨by decide, by decide⟩, by decide +kernel⟩
noncomputable def t_kindOf (l0 : Int) : Mo TS Int :=
  pr (l2i (lshr l0 32))
theorem st_kindOf (g : gC) (d : Nat) (h : CH) (l0 : Int) (hl0 : R64 l0) : SF g yX11_kindOf (Cond.code yX11_kindOf cX11_kindOf 2 (Option.some Jvm.ClassFile.FieldType.int)) (Option.some Jvm.ClassFile.FieldType.int) (d + 0) [vJ l0] (fun t => (h, t)) (t_kindOf l0) := by
  refine SF.of (lv := [(0, vJ l0)]) (by decide) (wt_J wt_0) rfl (by simp only [la_A, la_I, la_J, la_0]) (fun Γ hg hnm o => ?_)
  subst hg
  have o : Ok Γ "LazyForgeModel" cX11_kindOf 2 (Option.some Jvm.ClassFile.FieldType.int) (d + 0) := o
  unfold t_kindOf
  refine s_lload_n o dX11_kindOf_0 rfl 0 rfl ?_
  refine s_bipush o dX11_kindOf_1 rfl ?_
  refine s_lshr o dX11_kindOf_3 ?_
  refine s_l2i o dX11_kindOf_4 ?_
  exact s_iret o rfl i_int (l2i_R _) dX11_kindOf_5 (fun _ hh => hh)
theorem dX11_gives_0 : decode cX11_gives 0 = .ok (.aload_n 0, 1) := by decide +kernel
theorem dX11_gives_1 : decode cX11_gives 1 = .ok (.lload_n 1, 1) := by decide +kernel
theorem dX11_gives_2 : decode cX11_gives 2 = .ok (.putfield 623, 3) := by decide +kernel
theorem dX11_gives_5 : decode cX11_gives 5 = .ok (.aload_n 0, 1) := by decide +kernel
theorem dX11_gives_6 : decode cX11_gives 6 = .ok (.iconst 1, 1) := by decide +kernel
theorem dX11_gives_7 : decode cX11_gives 7 = .ok (.putfield 620, 3) := by decide +kernel
theorem dX11_gives_10 : decode cX11_gives 10 = .ok (.return_, 1) := by decide +kernel
theorem mw_X11_gives : MW yX11_gives (Cond.code yX11_gives cX11_gives 3 (Option.none : Option Jvm.ClassFile.FieldType)) cX11_gives 3 (Option.none : Option Jvm.ClassFile.FieldType) 1 := ⟨rfl, ⟨(lw_all_tbl q3260), rfl, (lw_all_tbl q173)⟩, rfl, ⟨by decide, by decide⟩, by decide +kernel⟩
noncomputable def t_gives (l1 : Int) : Mo TS Int :=
  bnd (ss 127 l1) fun _ =>
  bnd (ss 126 1) fun _ =>
  pr 0
theorem st_gives (g : gC) (d : Nat) (h : CH) (hT : HT h) (l1 : Int) (hl1 : R64 l1) : SF g yX11_gives (Cond.code yX11_gives cX11_gives 3 (Option.none : Option Jvm.ClassFile.FieldType)) (Option.none : Option Jvm.ClassFile.FieldType) (d + 0) [vA g 21, vJ l1] (fun t => (h, t)) (t_gives l1) := by
  refine SF.of (lv := [(0, vA g 21), (1, vJ l1)]) (by decide) (wt_A (wt_J wt_0)) rfl (by simp only [la_A, la_I, la_J, la_0]) (fun Γ hg hnm o => ?_)
  subst hg
  have o : Ok Γ "LazyForgeModel" cX11_gives 3 (Option.none : Option Jvm.ClassFile.FieldType) (d + 0) := o
  unfold t_gives
  refine s_aload_n o dX11_gives_0 rfl 0 rfl ?_
  refine s_lload_n o dX11_gives_1 rfl 1 rfl ?_
  refine r_tpf vJ rfl o hT tf_result tj_result (lw_all_tbl q2631) dX11_gives_2 hl1 ty_long ?_
  refine s_aload_n o dX11_gives_5 rfl 0 rfl ?_
  refine s_iconst o dX11_gives_6 ?_
  refine r_tpf vI rfl o hT tf_has0 tj_has0 (lw_all_tbl q2630) dX11_gives_7 (Or.inr rfl) ty_boolean ?_
  exact s_vret o rfl dX11_gives_10 (fun _ hh => hh)
theorem dX11_of_0 : decode cX11_of 0 = .ok (.lload_n 0, 1) := by decide +kernel
theorem dX11_of_1 : decode cX11_of 1 = .ok (.l2i, 1) := by decide +kernel
theorem dX11_of_2 : decode cX11_of 2 = .ok (.ireturn, 1) := by decide +kernel
theorem mw_X11_of : MW yX11_of (Cond.code yX11_of cX11_of 2 (Option.some Jvm.ClassFile.FieldType.int)) cX11_of 2 (Option.some Jvm.ClassFile.FieldType.int) 1 := ⟨rfl, ⟨(lw_all_tbl q3263), rfl, (lw_all_tbl q173)⟩, rfl, ⟨by decide, by decide⟩, by decide +kernel⟩
noncomputable def t_of (l0 : Int) : Mo TS Int :=
  pr (l2i l0)
theorem st_of (g : gC) (d : Nat) (h : CH) (l0 : Int) (hl0 : R64 l0) : SF g yX11_of (Cond.code yX11_of cX11_of 2 (Option.some Jvm.ClassFile.FieldType.int)) (Option.some Jvm.ClassFile.FieldType.int) (d + 0) [vJ l0] (fun t => (h, t)) (t_of l0) := by
  refine SF.of (lv := [(0, vJ l0)]) (by decide) (wt_J wt_0) rfl (by simp only [la_A, la_I, la_J, la_0]) (fun Γ hg hnm o => ?_)
  subst hg
  have o : Ok Γ "LazyForgeModel" cX11_of 2 (Option.some Jvm.ClassFile.FieldType.int) (d + 0) := o
  unfold t_of
  refine s_lload_n o dX11_of_0 rfl 0 rfl ?_
  refine s_l2i o dX11_of_1 ?_
  exact s_iret o rfl i_int (l2i_R _) dX11_of_2 (fun _ hh => hh)
theorem dX11_waits_0 : decode cX11_waits 0 = .ok (.aload_n 0, 1) := by decide +kernel
theorem dX11_waits_1 : decode cX11_waits 1 = .ok (.getfield 219, 3) := by decide +kernel
theorem dX11_waits_4 : decode cX11_waits 4 = .ok (.aload_n 0, 1) := by decide +kernel
theorem dX11_waits_5 : decode cX11_waits 5 = .ok (.getfield 611, 3) := by decide +kernel
theorem dX11_waits_8 : decode cX11_waits 8 = .ok (.iload_n 1, 1) := by decide +kernel
theorem dX11_waits_9 : decode cX11_waits 9 = .ok (.bipush 16, 2) := by decide +kernel
theorem dX11_waits_11 : decode cX11_waits 11 = .ok (.ishl, 1) := by decide +kernel
theorem dX11_waits_12 : decode cX11_waits 12 = .ok (.iload_n 2, 1) := by decide +kernel
theorem dX11_waits_13 : decode cX11_waits 13 = .ok (.ior, 1) := by decide +kernel
theorem dX11_waits_14 : decode cX11_waits 14 = .ok (.iastore, 1) := by decide +kernel
theorem dX11_waits_15 : decode cX11_waits 15 = .ok (.aload_n 0, 1) := by decide +kernel
theorem dX11_waits_16 : decode cX11_waits 16 = .ok (.getfield 222, 3) := by decide +kernel
theorem dX11_waits_19 : decode cX11_waits 19 = .ok (.aload_n 0, 1) := by decide +kernel
theorem dX11_waits_20 : decode cX11_waits 20 = .ok (.getfield 611, 3) := by decide +kernel
theorem dX11_waits_23 : decode cX11_waits 23 = .ok (.aload_n 0, 1) := by decide +kernel
theorem dX11_waits_24 : decode cX11_waits 24 = .ok (.getfield 614, 3) := by decide +kernel
theorem dX11_waits_27 : decode cX11_waits 27 = .ok (.iastore, 1) := by decide +kernel
theorem dX11_waits_28 : decode cX11_waits 28 = .ok (.aload_n 0, 1) := by decide +kernel
theorem dX11_waits_29 : decode cX11_waits 29 = .ok (.getfield 225, 3) := by decide +kernel
theorem dX11_waits_32 : decode cX11_waits 32 = .ok (.aload_n 0, 1) := by decide +kernel
theorem dX11_waits_33 : decode cX11_waits 33 = .ok (.getfield 611, 3) := by decide +kernel
theorem dX11_waits_36 : decode cX11_waits 36 = .ok (.iload_n 3, 1) := by decide +kernel
theorem dX11_waits_37 : decode cX11_waits 37 = .ok (.iastore, 1) := by decide +kernel
theorem dX11_waits_38 : decode cX11_waits 38 = .ok (.aload_n 0, 1) := by decide +kernel
theorem dX11_waits_39 : decode cX11_waits 39 = .ok (.dup, 1) := by decide +kernel
theorem dX11_waits_40 : decode cX11_waits 40 = .ok (.getfield 611, 3) := by decide +kernel
theorem dX11_waits_43 : decode cX11_waits 43 = .ok (.iconst 1, 1) := by decide +kernel
theorem dX11_waits_44 : decode cX11_waits 44 = .ok (.iadd, 1) := by decide +kernel
theorem dX11_waits_45 : decode cX11_waits 45 = .ok (.putfield 611, 3) := by decide +kernel
theorem dX11_waits_48 : decode cX11_waits 48 = .ok (.return_, 1) := by decide +kernel
theorem mw_X11_waits : MW yX11_waits (Cond.code yX11_waits cX11_waits 4 (Option.none : Option Jvm.ClassFile.FieldType)) cX11_waits 4 (Option.none : Option Jvm.ClassFile.FieldType) 3 := ⟨rfl, ⟨(lw_all_tbl q3267), rfl, (lw_all_tbl q173)⟩, rfl, ⟨by decide, by decide⟩, by decide +kernel⟩
noncomputable def t_waits (l1 : Int) (l2 : Int) (l3 : Int) : Mo TS Int :=
  bnd (gs 116) fun v1 =>
  bnd (wr 117 202000 v1 (ior (ishl l1 16) l2)) fun _ =>
  bnd (gs 116) fun v2 =>
  bnd (gs 122) fun v3 =>
  bnd (wr 118 202000 v2 v3) fun _ =>
  bnd (gs 116) fun v4 =>
  bnd (wr 119 202000 v4 l3) fun _ =>
  bnd (gs 116) fun v5 =>
  bnd (ss 116 (w32 (v5 + 1))) fun _ =>
  pr 0
theorem st_waits (g : gC) (d : Nat) (h : CH) (hT : HT h) (l1 : Int) (l2 : Int) (l3 : Int) (hl1 : R32 l1) (hl2 : R32 l2) (hl3 : R32 l3) : SF g yX11_waits (Cond.code yX11_waits cX11_waits 4 (Option.none : Option Jvm.ClassFile.FieldType)) (Option.none : Option Jvm.ClassFile.FieldType) (d + 0) [vA g 21, vI l1, vI l2, vI l3] (fun t => (h, t)) (t_waits l1 l2 l3) := by
  refine SF.of (lv := [(0, vA g 21), (1, vI l1), (2, vI l2), (3, vI l3)]) (by decide) (wt_A (wt_I (wt_I (wt_I wt_0)))) rfl (by simp only [la_A, la_I, la_J, la_0]) (fun Γ hg hnm o => ?_)
  subst hg
  have o : Ok Γ "LazyForgeModel" cX11_waits 4 (Option.none : Option Jvm.ClassFile.FieldType) (d + 0) := o
  unfold t_waits
  refine s_aload_n o dX11_waits_0 rfl 0 rfl ?_
  refine s_tga (x := 89) o hT tf_waitKinds ta_waitKinds (lw_all_tbl q2621) dX11_waits_1 ?_
  refine s_aload_n o dX11_waits_4 rfl 0 rfl ?_
  refine r_tgf vI rfl o hT tf_waiting tj_waiting (lw_all_tbl q2620) dX11_waits_5 (fun v1 hv1 => ?_)
  refine s_iload_n o dX11_waits_8 rfl 1 rfl ?_
  refine s_bipush o dX11_waits_9 rfl ?_
  refine s_ishl o dX11_waits_11 ?_
  refine s_iload_n o dX11_waits_12 rfl 2 rfl ?_
  refine s_ior o dX11_waits_13 ?_
  refine r_tiast o hT tr_waitKinds hv1 (ior_R _ _) dX11_waits_14 ?_
  refine s_aload_n o dX11_waits_15 rfl 0 rfl ?_
  refine s_tga (x := 90) o hT tf_waitBases ta_waitBases (lw_all_tbl q2622) dX11_waits_16 ?_
  refine s_aload_n o dX11_waits_19 rfl 0 rfl ?_
  refine r_tgf vI rfl o hT tf_waiting tj_waiting (lw_all_tbl q2620) dX11_waits_20 (fun v2 hv2 => ?_)
  refine s_aload_n o dX11_waits_23 rfl 0 rfl ?_
  refine r_tgf vI rfl o hT tf_base tj_base (lw_all_tbl q2626) dX11_waits_24 (fun v3 hv3 => ?_)
  refine r_tiast o hT tr_waitBases hv2 hv3 dX11_waits_27 ?_
  refine s_aload_n o dX11_waits_28 rfl 0 rfl ?_
  refine s_tga (x := 91) o hT tf_waitMore ta_waitMore (lw_all_tbl q2623) dX11_waits_29 ?_
  refine s_aload_n o dX11_waits_32 rfl 0 rfl ?_
  refine r_tgf vI rfl o hT tf_waiting tj_waiting (lw_all_tbl q2620) dX11_waits_33 (fun v4 hv4 => ?_)
  refine s_iload_n o dX11_waits_36 rfl 3 rfl ?_
  refine r_tiast o hT tr_waitMore hv4 hl3 dX11_waits_37 ?_
  refine s_aload_n o dX11_waits_38 rfl 0 rfl ?_
  refine s_dup o dX11_waits_39 (vA_cat (mg Γ) 21) ?_
  refine r_tgf vI rfl o hT tf_waiting tj_waiting (lw_all_tbl q2620) dX11_waits_40 (fun v5 hv5 => ?_)
  refine s_iconst o dX11_waits_43 ?_
  refine s_iadd o dX11_waits_44 ?_
  refine r_tpf vI rfl o hT tf_waiting tj_waiting (lw_all_tbl q2620) dX11_waits_45 (w32_R _) ty_int ?_
  exact s_vret o rfl dX11_waits_48 (fun _ hh => hh)
theorem dX11_evaluate_0 : decode cX11_evaluate 0 = .ok (.aload_n 0, 1) := by decide +kernel
theorem dX11_evaluate_1 : decode cX11_evaluate 1 = .ok (.iload_n 1, 1) := by decide +kernel
theorem dX11_evaluate_2 : decode cX11_evaluate 2 = .ok (.putfield 617, 3) := by decide +kernel
theorem dX11_evaluate_5 : decode cX11_evaluate 5 = .ok (.aload_n 0, 1) := by decide +kernel
theorem dX11_evaluate_6 : decode cX11_evaluate 6 = .ok (.iconst 0, 1) := by decide +kernel
theorem dX11_evaluate_7 : decode cX11_evaluate 7 = .ok (.putfield 620, 3) := by decide +kernel
theorem dX11_evaluate_10 : decode cX11_evaluate 10 = .ok (.return_, 1) := by decide +kernel
theorem mw_X11_evaluate : MW yX11_evaluate (Cond.code yX11_evaluate cX11_evaluate 2 (Option.none : Option Jvm.ClassFile.FieldType)) cX11_evaluate 2 (Option.none : Option Jvm.ClassFile.FieldType) 1 := ⟨rfl, ⟨(lw_all_tbl q3275), rfl, (lw_all_tbl q173)⟩, rfl, ⟨by decide, by decide⟩, by decide +kernel⟩
noncomputable def t_evaluate (l1 : Int) : Mo TS Int :=
  bnd (ss 125 l1) fun _ =>
  bnd (ss 126 0) fun _ =>
  pr 0
theorem st_evaluate (g : gC) (d : Nat) (h : CH) (hT : HT h) (l1 : Int) (hl1 : R32 l1) : SF g yX11_evaluate (Cond.code yX11_evaluate cX11_evaluate 2 (Option.none : Option Jvm.ClassFile.FieldType)) (Option.none : Option Jvm.ClassFile.FieldType) (d + 0) [vA g 21, vI l1] (fun t => (h, t)) (t_evaluate l1) := by
  refine SF.of (lv := [(0, vA g 21), (1, vI l1)]) (by decide) (wt_A (wt_I wt_0)) rfl (by simp only [la_A, la_I, la_J, la_0]) (fun Γ hg hnm o => ?_)
  subst hg
  have o : Ok Γ "LazyForgeModel" cX11_evaluate 2 (Option.none : Option Jvm.ClassFile.FieldType) (d + 0) := o
  unfold t_evaluate
  refine s_aload_n o dX11_evaluate_0 rfl 0 rfl ?_
  refine s_iload_n o dX11_evaluate_1 rfl 1 rfl ?_
  refine r_tpf vI rfl o hT tf_current tj_current (lw_all_tbl q2629) dX11_evaluate_2 hl1 ty_int ?_
  refine s_aload_n o dX11_evaluate_5 rfl 0 rfl ?_
  refine s_iconst o dX11_evaluate_6 ?_
  refine r_tpf vI rfl o hT tf_has0 tj_has0 (lw_all_tbl q2630) dX11_evaluate_7 (Or.inl rfl) ty_boolean ?_
  exact s_vret o rfl dX11_evaluate_10 (fun _ hh => hh)
theorem dX11_push_0 : decode cX11_push 0 = .ok (.aload_n 0, 1) := by decide +kernel
theorem dX11_push_1 : decode cX11_push 1 = .ok (.getfield 229, 3) := by decide +kernel
theorem dX11_push_4 : decode cX11_push 4 = .ok (.aload_n 0, 1) := by decide +kernel
theorem dX11_push_5 : decode cX11_push 5 = .ok (.getfield 724, 3) := by decide +kernel
theorem dX11_push_8 : decode cX11_push 8 = .ok (.lload_n 1, 1) := by decide +kernel
theorem dX11_push_9 : decode cX11_push 9 = .ok (.lastore, 1) := by decide +kernel
theorem dX11_push_10 : decode cX11_push 10 = .ok (.aload_n 0, 1) := by decide +kernel
theorem dX11_push_11 : decode cX11_push 11 = .ok (.dup, 1) := by decide +kernel
theorem dX11_push_12 : decode cX11_push 12 = .ok (.getfield 724, 3) := by decide +kernel
theorem dX11_push_15 : decode cX11_push 15 = .ok (.iconst 1, 1) := by decide +kernel
theorem dX11_push_16 : decode cX11_push 16 = .ok (.iadd, 1) := by decide +kernel
theorem dX11_push_17 : decode cX11_push 17 = .ok (.putfield 724, 3) := by decide +kernel
theorem dX11_push_20 : decode cX11_push 20 = .ok (.return_, 1) := by decide +kernel
theorem mw_X11_push : MW yX11_push (Cond.code yX11_push cX11_push 3 (Option.none : Option Jvm.ClassFile.FieldType)) cX11_push 3 (Option.none : Option Jvm.ClassFile.FieldType) 1 := ⟨rfl, ⟨(lw_all_tbl q3284), rfl, (lw_all_tbl q173)⟩, rfl, ⟨by decide, by decide⟩, by decide +kernel⟩
noncomputable def t_push (l1 : Int) : Mo TS Int :=
  bnd (gs 120) fun v1 =>
  bnd (wr 121 580000 v1 l1) fun _ =>
  bnd (gs 120) fun v2 =>
  bnd (ss 120 (w32 (v2 + 1))) fun _ =>
  pr 0
theorem st_push (g : gC) (d : Nat) (h : CH) (hT : HT h) (l1 : Int) (hl1 : R64 l1) : SF g yX11_push (Cond.code yX11_push cX11_push 3 (Option.none : Option Jvm.ClassFile.FieldType)) (Option.none : Option Jvm.ClassFile.FieldType) (d + 0) [vA g 21, vJ l1] (fun t => (h, t)) (t_push l1) := by
  refine SF.of (lv := [(0, vA g 21), (1, vJ l1)]) (by decide) (wt_A (wt_J wt_0)) rfl (by simp only [la_A, la_I, la_J, la_0]) (fun Γ hg hnm o => ?_)
  subst hg
  have o : Ok Γ "LazyForgeModel" cX11_push 3 (Option.none : Option Jvm.ClassFile.FieldType) (d + 0) := o
  unfold t_push
  refine s_aload_n o dX11_push_0 rfl 0 rfl ?_
  refine s_tga (x := 92) o hT tf_stack ta_stack (lw_all_tbl q2625) dX11_push_1 ?_
  refine s_aload_n o dX11_push_4 rfl 0 rfl ?_
  refine r_tgf vI rfl o hT tf_top tj_top (lw_all_tbl q2624) dX11_push_5 (fun v1 hv1 => ?_)
  refine s_lload_n o dX11_push_8 rfl 1 rfl ?_
  refine r_tlast o hT tr_stack hv1 hl1 dX11_push_9 ?_
  refine s_aload_n o dX11_push_10 rfl 0 rfl ?_
  refine s_dup o dX11_push_11 (vA_cat (mg Γ) 21) ?_
  refine r_tgf vI rfl o hT tf_top tj_top (lw_all_tbl q2624) dX11_push_12 (fun v2 hv2 => ?_)
  refine s_iconst o dX11_push_15 ?_
  refine s_iadd o dX11_push_16 ?_
  refine r_tpf vI rfl o hT tf_top tj_top (lw_all_tbl q2624) dX11_push_17 (w32_R _) ty_int ?_
  exact s_vret o rfl dX11_push_20 (fun _ hh => hh)
theorem dX11_ones_0 : decode cX11_ones 0 = .ok (.iconst 0, 1) := by decide +kernel
theorem dX11_ones_1 : decode cX11_ones 1 = .ok (.istore_n 2, 1) := by decide +kernel
theorem dX11_ones_2 : decode cX11_ones 2 = .ok (.lload_n 0, 1) := by decide +kernel
theorem dX11_ones_3 : decode cX11_ones 3 = .ok (.lstore_n 3, 1) := by decide +kernel
theorem dX11_ones_4 : decode cX11_ones 4 = .ok (.lload_n 3, 1) := by decide +kernel
theorem dX11_ones_5 : decode cX11_ones 5 = .ok (.lconst 0, 1) := by decide +kernel
theorem dX11_ones_6 : decode cX11_ones 6 = .ok (.lcmp, 1) := by decide +kernel
theorem dX11_ones_7 : decode cX11_ones 7 = .ok (.ifCond .eq 15, 3) := by decide +kernel
theorem dX11_ones_10 : decode cX11_ones 10 = .ok (.iinc 2 1, 3) := by decide +kernel
theorem dX11_ones_13 : decode cX11_ones 13 = .ok (.lload_n 3, 1) := by decide +kernel
theorem dX11_ones_14 : decode cX11_ones 14 = .ok (.lload_n 3, 1) := by decide +kernel
theorem dX11_ones_15 : decode cX11_ones 15 = .ok (.lconst 1, 1) := by decide +kernel
theorem dX11_ones_16 : decode cX11_ones 16 = .ok (.lsub, 1) := by decide +kernel
theorem dX11_ones_17 : decode cX11_ones 17 = .ok (.land, 1) := by decide +kernel
theorem dX11_ones_18 : decode cX11_ones 18 = .ok (.lstore_n 3, 1) := by decide +kernel
theorem dX11_ones_19 : decode cX11_ones 19 = .ok (.goto (-15), 3) := by decide +kernel
theorem dX11_ones_22 : decode cX11_ones 22 = .ok (.iload_n 2, 1) := by decide +kernel
theorem dX11_ones_23 : decode cX11_ones 23 = .ok (.ireturn, 1) := by decide +kernel
theorem mw_X11_ones : MW yX11_ones (Cond.code yX11_ones cX11_ones 5 (Option.some Jvm.ClassFile.FieldType.int)) cX11_ones 5 (Option.some Jvm.ClassFile.FieldType.int) 1 := ⟨rfl, ⟨(lw_all_tbl q3315), rfl, (lw_all_tbl q173)⟩, rfl, ⟨by decide, by decide⟩, by decide +kernel⟩
abbrev okt_ones_4 (x : Int × Int) : Prop := R32 x.1 ∧ R64 x.2
abbrev lvt_ones_4 (Γ : Gm) (x : Int × Int) : List (Nat × Value) := [(2, vI x.1), (3, vJ x.2)]
noncomputable def t_ones_4b {A : Type} (k_22 : Int → Mo TS A) (l2 : Int) (l3 : Int) : Mo TS ((Int × Int) ⊕ A) :=
  if l3 = 0 then
    lo (k_22 l2)
  else
    pr (.inl ((w32 (l2 + 1)), (land l3 (w64 (l3 - 1)))))
theorem st_ones_4b {Γ : Gm} {h : CH} {d : Nat} (o : Ok Γ "LazyForgeModel" cX11_ones 5 (Option.some Jvm.ClassFile.FieldType.int) (d + 0)) {A : Type} {K : A → TS → Prop} (k_22 : Int → Mo TS A) (hk_22 : ∀ (l2 : Int), R32 l2 → Sx Γ (fun t => (h, t)) K 22 [(2, vI l2)] [] (k_22 l2)) (l2 : Int) (l3 : Int) (hl2 : R32 l2) (hl3 : R64 l3) : Sx Γ (fun t => (h, t)) (KL Γ (fun t => (h, t)) okt_ones_4 K 4 (lvt_ones_4 Γ) []) 4 [(2, vI l2), (3, vJ l3)] [] (t_ones_4b k_22 l2 l3) := by
  unfold t_ones_4b
  refine s_lload_n o dX11_ones_4 rfl 1 rfl ?_
  refine s_lconst (x := 0) o dX11_ones_5 rfl ?_
  refine s_lcmp_eq (tgt := 22) o dX11_ones_6 dX11_ones_7 (by decide) hl3 (r64 rfl) ?_ ?_
  · refine r_to [(2, vI l2)] [0] rfl ?_
    exact s_lo (hk_22 l2 hl2)
  · refine r_iinc (j := 0) o dX11_ones_10 rfl rfl [(3, vJ l3)] [1] rfl ⟨(Nat.ne_of_beq_eq_false rfl), (fun e => absurd e (Nat.ne_of_beq_eq_false rfl)), trivial⟩ ?_
    refine s_lload_n o dX11_ones_13 rfl 1 rfl ?_
    refine s_lload_n o dX11_ones_14 rfl 1 rfl ?_
    refine s_lconst (x := 1) o dX11_ones_15 rfl ?_
    refine s_lsub o dX11_ones_16 ?_
    refine s_land o dX11_ones_17 ?_
    refine r_lstore_nP o dX11_ones_18 rfl rfl [(2, vI (w32 (l2 + 1)))] [0] rfl ⟨(Nat.ne_of_beq_eq_false rfl), (Nat.ne_of_beq_eq_false rfl), (fun _ => rfl), trivial⟩ ?_
    refine s_goto (tgt := 4) o dX11_ones_19 (by decide) ?_
    refine r_to [(2, vI (w32 (l2 + 1))), (3, vJ (land l3 (w64 (l3 - 1))))] [1, 0] rfl ?_
    exact s_back (⟨(w32_R _), (land_R _ _)⟩) rfl
noncomputable def t_ones_4 {A : Type} (k_22 : Int → Mo TS A) (l2 : Int) (l3 : Int) : Mo TS A := Loop (fun x => t_ones_4b k_22 x.1 x.2) (l2, l3)
theorem st_ones_4 {Γ : Gm} {h : CH} {d : Nat} (o : Ok Γ "LazyForgeModel" cX11_ones 5 (Option.some Jvm.ClassFile.FieldType.int) (d + 0)) {A : Type} {K : A → TS → Prop} (k_22 : Int → Mo TS A) (hk_22 : ∀ (l2 : Int), R32 l2 → Sx Γ (fun t => (h, t)) K 22 [(2, vI l2)] [] (k_22 l2)) (l2 : Int) (l3 : Int) (hl2 : R32 l2) (hl3 : R64 l3) : Sx Γ (fun t => (h, t)) K 4 [(2, vI l2), (3, vJ l3)] [] (t_ones_4 k_22 l2 l3) :=
  s_loop okt_ones_4 (lvt_ones_4 Γ) (fun x hx => st_ones_4b o k_22 hk_22 x.1 x.2 hx.1 hx.2) (x := (l2, l3)) ⟨hl2, hl3⟩
noncomputable def t_ones (l0 : Int) : Mo TS Int :=
  t_ones_4
    (fun v1 => pr v1) 0 l0
theorem st_ones (g : gC) (d : Nat) (h : CH) (l0 : Int) (hl0 : R64 l0) : SF g yX11_ones (Cond.code yX11_ones cX11_ones 5 (Option.some Jvm.ClassFile.FieldType.int)) (Option.some Jvm.ClassFile.FieldType.int) (d + 0) [vJ l0] (fun t => (h, t)) (t_ones l0) := by
  refine SF.of (lv := [(0, vJ l0)]) (by decide) (wt_J wt_0) rfl (by simp only [la_A, la_I, la_J, la_0]) (fun Γ hg hnm o => ?_)
  subst hg
  have o : Ok Γ "LazyForgeModel" cX11_ones 5 (Option.some Jvm.ClassFile.FieldType.int) (d + 0) := o
  unfold t_ones
  refine s_iconst o dX11_ones_0 ?_
  refine r_istore_n o dX11_ones_1 rfl rfl ⟨(Nat.ne_of_beq_eq_false rfl), (fun e => absurd e (Nat.ne_of_beq_eq_false rfl)), trivial⟩ ?_
  refine s_lload_n o dX11_ones_2 rfl 1 rfl ?_
  refine r_lstore_n o dX11_ones_3 rfl rfl ⟨(Nat.ne_of_beq_eq_false rfl), (Nat.ne_of_beq_eq_false rfl), (fun _ => rfl), ⟨(Nat.ne_of_beq_eq_false rfl), (Nat.ne_of_beq_eq_false rfl), (fun e => absurd e (Nat.ne_of_beq_eq_false rfl)), trivial⟩⟩ ?_
  refine r_to [(2, vI 0), (3, vJ l0)] [1, 0] rfl ?_
  refine st_ones_4 o _ ?_ 0 l0 (r32 rfl) hl0
  · intro v1 hv1
    refine s_iload_n o dX11_ones_22 rfl 0 rfl ?_
    exact s_iret o rfl i_int hv1 dX11_ones_23 (fun _ hh => hh)
theorem dX11_put_0 : decode cX11_put 0 = .ok (.iconst 0, 1) := by decide +kernel
theorem dX11_put_1 : decode cX11_put 1 = .ok (.istore_n 2, 1) := by decide +kernel
theorem dX11_put_2 : decode cX11_put 2 = .ok (.iconst 1, 1) := by decide +kernel
theorem dX11_put_3 : decode cX11_put 3 = .ok (.istore_n 3, 1) := by decide +kernel
theorem dX11_put_4 : decode cX11_put 4 = .ok (.iconst 0, 1) := by decide +kernel
theorem dX11_put_5 : decode cX11_put 5 = .ok (.istore 4, 2) := by decide +kernel
theorem dX11_put_7 : decode cX11_put 7 = .ok (.iload 4, 2) := by decide +kernel
theorem dX11_put_9 : decode cX11_put 9 = .ok (.bipush 32, 2) := by decide +kernel
theorem dX11_put_11 : decode cX11_put 11 = .ok (.if_icmp .ge 68, 3) := by decide +kernel
theorem dX11_put_14 : decode cX11_put 14 = .ok (.iload_n 1, 1) := by decide +kernel
theorem dX11_put_15 : decode cX11_put 15 = .ok (.iload 4, 2) := by decide +kernel
theorem dX11_put_17 : decode cX11_put 17 = .ok (.ishr, 1) := by decide +kernel
theorem dX11_put_18 : decode cX11_put 18 = .ok (.sipush 255, 3) := by decide +kernel
theorem dX11_put_21 : decode cX11_put 21 = .ok (.iand, 1) := by decide +kernel
theorem dX11_put_22 : decode cX11_put 22 = .ok (.istore 5, 2) := by decide +kernel
theorem dX11_put_24 : decode cX11_put 24 = .ok (.iload_n 3, 1) := by decide +kernel
theorem dX11_put_25 : decode cX11_put 25 = .ok (.ifCond .eq 33, 3) := by decide +kernel
theorem dX11_put_28 : decode cX11_put 28 = .ok (.iload 5, 2) := by decide +kernel
theorem dX11_put_30 : decode cX11_put 30 = .ok (.ifCond .eq 24, 3) := by decide +kernel
theorem dX11_put_33 : decode cX11_put 33 = .ok (.iload 5, 2) := by decide +kernel
theorem dX11_put_35 : decode cX11_put 35 = .ok (.bipush 10, 2) := by decide +kernel
theorem dX11_put_37 : decode cX11_put 37 = .ok (.if_icmp .eq 17, 3) := by decide +kernel
theorem dX11_put_40 : decode cX11_put 40 = .ok (.iload 5, 2) := by decide +kernel
theorem dX11_put_42 : decode cX11_put 42 = .ok (.bipush 32, 2) := by decide +kernel
theorem dX11_put_44 : decode cX11_put 44 = .ok (.if_icmp .lt 14, 3) := by decide +kernel
theorem dX11_put_47 : decode cX11_put 47 = .ok (.iload 5, 2) := by decide +kernel
theorem dX11_put_49 : decode cX11_put 49 = .ok (.bipush 126, 2) := by decide +kernel
theorem dX11_put_51 : decode cX11_put 51 = .ok (.if_icmp .gt 7, 3) := by decide +kernel
theorem dX11_put_54 : decode cX11_put 54 = .ok (.iconst 1, 1) := by decide +kernel
theorem dX11_put_55 : decode cX11_put 55 = .ok (.goto 4, 3) := by decide +kernel
theorem dX11_put_58 : decode cX11_put 58 = .ok (.iconst 0, 1) := by decide +kernel
theorem dX11_put_59 : decode cX11_put 59 = .ok (.istore_n 3, 1) := by decide +kernel
theorem dX11_put_60 : decode cX11_put 60 = .ok (.iload_n 2, 1) := by decide +kernel
theorem dX11_put_61 : decode cX11_put 61 = .ok (.iload 5, 2) := by decide +kernel
theorem dX11_put_63 : decode cX11_put 63 = .ok (.ifCond .ne 7, 3) := by decide +kernel
theorem dX11_put_66 : decode cX11_put 66 = .ok (.iconst 0, 1) := by decide +kernel
theorem dX11_put_67 : decode cX11_put 67 = .ok (.goto 4, 3) := by decide +kernel
theorem dX11_put_70 : decode cX11_put 70 = .ok (.iconst 1, 1) := by decide +kernel
theorem dX11_put_71 : decode cX11_put 71 = .ok (.iadd, 1) := by decide +kernel
theorem dX11_put_72 : decode cX11_put 72 = .ok (.istore_n 2, 1) := by decide +kernel
theorem dX11_put_73 : decode cX11_put 73 = .ok (.iinc 4 8, 3) := by decide +kernel
theorem dX11_put_76 : decode cX11_put 76 = .ok (.goto (-69), 3) := by decide +kernel
theorem dX11_put_79 : decode cX11_put 79 = .ok (.aload_n 0, 1) := by decide +kernel
theorem dX11_put_80 : decode cX11_put 80 = .ok (.iload_n 3, 1) := by decide +kernel
theorem dX11_put_81 : decode cX11_put 81 = .ok (.ifCond .ne 7, 3) := by decide +kernel
theorem dX11_put_84 : decode cX11_put 84 = .ok (.iconst 1, 1) := by decide +kernel
theorem dX11_put_85 : decode cX11_put 85 = .ok (.goto 20, 3) := by decide +kernel
theorem dX11_put_88 : decode cX11_put 88 = .ok (.aload_n 0, 1) := by decide +kernel
theorem dX11_put_89 : decode cX11_put 89 = .ok (.getfield 254, 3) := by decide +kernel
theorem dX11_put_92 : decode cX11_put 92 = .ok (.iload_n 2, 1) := by decide +kernel
theorem dX11_put_93 : decode cX11_put 93 = .ok (.iadd, 1) := by decide +kernel
theorem dX11_put_94 : decode cX11_put 94 = .ok (.sipush 3000, 3) := by decide +kernel
theorem dX11_put_97 : decode cX11_put 97 = .ok (.if_icmp .le 7, 3) := by decide +kernel
theorem dX11_put_100 : decode cX11_put 100 = .ok (.iconst 2, 1) := by decide +kernel
theorem dX11_put_101 : decode cX11_put 101 = .ok (.goto 4, 3) := by decide +kernel
theorem dX11_put_104 : decode cX11_put 104 = .ok (.iconst 0, 1) := by decide +kernel
theorem dX11_put_105 : decode cX11_put 105 = .ok (.putfield 251, 3) := by decide +kernel
theorem dX11_put_108 : decode cX11_put 108 = .ok (.aload_n 0, 1) := by decide +kernel
theorem dX11_put_109 : decode cX11_put 109 = .ok (.getfield 251, 3) := by decide +kernel
theorem dX11_put_112 : decode cX11_put 112 = .ok (.ifCond .le 5, 3) := by decide +kernel
theorem dX11_put_115 : decode cX11_put 115 = .ok (.iconst 0, 1) := by decide +kernel
theorem dX11_put_116 : decode cX11_put 116 = .ok (.ireturn, 1) := by decide +kernel
theorem dX11_put_117 : decode cX11_put 117 = .ok (.iconst 0, 1) := by decide +kernel
theorem dX11_put_118 : decode cX11_put 118 = .ok (.istore 4, 2) := by decide +kernel
theorem dX11_put_120 : decode cX11_put 120 = .ok (.iload 4, 2) := by decide +kernel
theorem dX11_put_122 : decode cX11_put 122 = .ok (.bipush 32, 2) := by decide +kernel
theorem dX11_put_124 : decode cX11_put 124 = .ok (.if_icmp .ge 45, 3) := by decide +kernel
theorem dX11_put_127 : decode cX11_put 127 = .ok (.iload_n 1, 1) := by decide +kernel
theorem dX11_put_128 : decode cX11_put 128 = .ok (.iload 4, 2) := by decide +kernel
theorem dX11_put_130 : decode cX11_put 130 = .ok (.ishr, 1) := by decide +kernel
theorem dX11_put_131 : decode cX11_put 131 = .ok (.sipush 255, 3) := by decide +kernel
theorem dX11_put_134 : decode cX11_put 134 = .ok (.iand, 1) := by decide +kernel
theorem dX11_put_135 : decode cX11_put 135 = .ok (.istore 5, 2) := by decide +kernel
theorem dX11_put_137 : decode cX11_put 137 = .ok (.iload 5, 2) := by decide +kernel
theorem dX11_put_139 : decode cX11_put 139 = .ok (.ifCond .eq 24, 3) := by decide +kernel
theorem dX11_put_142 : decode cX11_put 142 = .ok (.aload_n 0, 1) := by decide +kernel
theorem dX11_put_143 : decode cX11_put 143 = .ok (.getfield 7, 3) := by decide +kernel
theorem dX11_put_146 : decode cX11_put 146 = .ok (.aload_n 0, 1) := by decide +kernel
theorem dX11_put_147 : decode cX11_put 147 = .ok (.getfield 254, 3) := by decide +kernel
theorem dX11_put_150 : decode cX11_put 150 = .ok (.iload 5, 2) := by decide +kernel
theorem dX11_put_152 : decode cX11_put 152 = .ok (.iastore, 1) := by decide +kernel
theorem dX11_put_153 : decode cX11_put 153 = .ok (.aload_n 0, 1) := by decide +kernel
theorem dX11_put_154 : decode cX11_put 154 = .ok (.dup, 1) := by decide +kernel
theorem dX11_put_155 : decode cX11_put 155 = .ok (.getfield 254, 3) := by decide +kernel
theorem dX11_put_158 : decode cX11_put 158 = .ok (.iconst 1, 1) := by decide +kernel
theorem dX11_put_159 : decode cX11_put 159 = .ok (.iadd, 1) := by decide +kernel
theorem dX11_put_160 : decode cX11_put 160 = .ok (.putfield 254, 3) := by decide +kernel
theorem dX11_put_163 : decode cX11_put 163 = .ok (.iinc 4 8, 3) := by decide +kernel
theorem dX11_put_166 : decode cX11_put 166 = .ok (.goto (-46), 3) := by decide +kernel
theorem dX11_put_169 : decode cX11_put 169 = .ok (.aload_n 0, 1) := by decide +kernel
theorem dX11_put_170 : decode cX11_put 170 = .ok (.getfield 254, 3) := by decide +kernel
theorem dX11_put_173 : decode cX11_put 173 = .ok (.ireturn, 1) := by decide +kernel
theorem mw_X11_put : MW yX11_put (Cond.code yX11_put cX11_put 6 (Option.some Jvm.ClassFile.FieldType.int)) cX11_put 6 (Option.some Jvm.ClassFile.FieldType.int) 1 := ⟨rfl, ⟨(lw_all_tbl q3355), rfl, (lw_all_tbl q173)⟩, rfl, ⟨by decide, by decide⟩, by decide +kernel⟩
abbrev okt_put_120 (x : Int × Int) : Prop := R32 x.1 ∧ R32 x.2
abbrev lvt_put_120 (Γ : Gm) (x : Int × Int) : List (Nat × Value) := [(0, vA (mg Γ) 21), (1, vI x.1), (4, vI x.2)]
noncomputable def t_put_163 {A : Type} (k_169 : Mo TS A) (l1 : Int) (l4 : Int) : Mo TS ((Int × Int) ⊕ A) :=
  pr (.inl (l1, (w32 (l4 + 8))))
theorem st_put_163 {Γ : Gm} {h : CH} {d : Nat} (hT : HT h) (o : Ok Γ "LazyForgeModel" cX11_put 6 (Option.some Jvm.ClassFile.FieldType.int) (d + 0)) {A : Type} {K : A → TS → Prop}  (k_169 : Mo TS A) (hk_169 : Sx Γ (fun t => (h, t)) K 169 [(0, vA (mg Γ) 21)] [] (k_169)) (l1 : Int) (l4 : Int) (hl1 : R32 l1) (hl4 : R32 l4) : Sx Γ (fun t => (h, t)) (KL Γ (fun t => (h, t)) okt_put_120 K 120 (lvt_put_120 Γ) []) 163 [(0, vA (mg Γ) 21), (1, vI l1), (4, vI l4)] [] (t_put_163 k_169 l1 l4) := by
  unfold t_put_163
  refine r_iinc (j := 2) o dX11_put_163 rfl rfl [(0, vA (mg Γ) 21), (1, vI l1)] [0, 1] rfl ⟨(Nat.ne_of_beq_eq_false rfl), (fun _ => (vA_cat (mg Γ) 21)), ⟨(Nat.ne_of_beq_eq_false rfl), (fun _ => rfl), trivial⟩⟩ ?_
  refine s_goto (tgt := 120) o dX11_put_166 (by decide) ?_
  refine r_to [(0, vA (mg Γ) 21), (1, vI l1), (4, vI (w32 (l4 + 8)))] [1, 2, 0] rfl ?_
  exact s_back (⟨hl1, (w32_R _)⟩) rfl
noncomputable def t_put_120b {A : Type} (k_169 : Mo TS A) (l1 : Int) (l4 : Int) : Mo TS ((Int × Int) ⊕ A) :=
  if 32 ≤ l4 then
    lo k_169
  else
    if (iand (ishr l1 l4) 255) = 0 then
      t_put_163 k_169 l1 l4
    else
      bnd (gs 2) fun v1 =>
      bnd (wr 1 3000 v1 (iand (ishr l1 l4) 255)) fun _ =>
      bnd (gs 2) fun v2 =>
      bnd (ss 2 (w32 (v2 + 1))) fun _ =>
      t_put_163 k_169 l1 l4
theorem st_put_120b {Γ : Gm} {h : CH} {d : Nat} (hT : HT h) (o : Ok Γ "LazyForgeModel" cX11_put 6 (Option.some Jvm.ClassFile.FieldType.int) (d + 0)) {A : Type} {K : A → TS → Prop} (k_169 : Mo TS A) (hk_169 : Sx Γ (fun t => (h, t)) K 169 [(0, vA (mg Γ) 21)] [] (k_169)) (l1 : Int) (l4 : Int) (hl1 : R32 l1) (hl4 : R32 l4) : Sx Γ (fun t => (h, t)) (KL Γ (fun t => (h, t)) okt_put_120 K 120 (lvt_put_120 Γ) []) 120 [(0, vA (mg Γ) 21), (1, vI l1), (4, vI l4)] [] (t_put_120b k_169 l1 l4) := by
  unfold t_put_120b
  refine s_iload o dX11_put_120 2 rfl ?_
  refine s_bipush o dX11_put_122 rfl ?_
  refine s_icmp_ge (tgt := 169) o dX11_put_124 (by decide) hl4 (r32 rfl) ?_ ?_
  · refine r_to [(0, vA (mg Γ) 21)] [0] rfl ?_
    exact s_lo hk_169
  · refine s_iload_n o dX11_put_127 rfl 1 rfl ?_
    refine s_iload o dX11_put_128 2 rfl ?_
    refine s_ishr o dX11_put_130 ?_
    refine s_sipush o dX11_put_131 rfl ?_
    refine s_iand o dX11_put_134 ?_
    refine r_istore o dX11_put_135 rfl ⟨(Nat.ne_of_beq_eq_false rfl), (fun _ => (vA_cat (mg Γ) 21)), ⟨(Nat.ne_of_beq_eq_false rfl), (fun _ => rfl), ⟨(Nat.ne_of_beq_eq_false rfl), (fun _ => rfl), trivial⟩⟩⟩ ?_
    refine s_iload o dX11_put_137 0 rfl ?_
    refine s_if_eq (tgt := 163) o dX11_put_139 (by decide) (iand_R _ _) ?_ ?_
    · refine r_to [(0, vA (mg Γ) 21), (1, vI l1), (4, vI l4)] [1, 2, 3] rfl ?_
      exact st_put_163 hT o k_169 hk_169 l1 l4 hl1 hl4
    · refine s_aload_n o dX11_put_142 rfl 1 rfl ?_
      refine s_tga (x := 22) o hT tf_text ta_text (lw_all_tbl q2505) dX11_put_143 ?_
      refine s_aload_n o dX11_put_146 rfl 1 rfl ?_
      refine r_tgf vI rfl o hT tf_size tj_size (lw_all_tbl q2506) dX11_put_147 (fun v1 hv1 => ?_)
      refine s_iload o dX11_put_150 0 rfl ?_
      refine r_tiast o hT tr_text hv1 (iand_R _ _) dX11_put_152 ?_
      refine s_aload_n o dX11_put_153 rfl 1 rfl ?_
      refine s_dup o dX11_put_154 (vA_cat (mg Γ) 21) ?_
      refine r_tgf vI rfl o hT tf_size tj_size (lw_all_tbl q2506) dX11_put_155 (fun v2 hv2 => ?_)
      refine s_iconst o dX11_put_158 ?_
      refine s_iadd o dX11_put_159 ?_
      refine r_tpf vI rfl o hT tf_size tj_size (lw_all_tbl q2506) dX11_put_160 (w32_R _) ty_int ?_
      refine r_to [(0, vA (mg Γ) 21), (1, vI l1), (4, vI l4)] [1, 2, 3] rfl ?_
      exact st_put_163 hT o k_169 hk_169 l1 l4 hl1 hl4
noncomputable def t_put_120 {A : Type} (k_169 : Mo TS A) (l1 : Int) (l4 : Int) : Mo TS A := Loop (fun x => t_put_120b k_169 x.1 x.2) (l1, l4)
theorem st_put_120 {Γ : Gm} {h : CH} {d : Nat} (hT : HT h) (o : Ok Γ "LazyForgeModel" cX11_put 6 (Option.some Jvm.ClassFile.FieldType.int) (d + 0)) {A : Type} {K : A → TS → Prop} (k_169 : Mo TS A) (hk_169 : Sx Γ (fun t => (h, t)) K 169 [(0, vA (mg Γ) 21)] [] (k_169)) (l1 : Int) (l4 : Int) (hl1 : R32 l1) (hl4 : R32 l4) : Sx Γ (fun t => (h, t)) K 120 [(0, vA (mg Γ) 21), (1, vI l1), (4, vI l4)] [] (t_put_120 k_169 l1 l4) :=
  s_loop okt_put_120 (lvt_put_120 Γ) (fun x hx => st_put_120b hT o k_169 hk_169 x.1 x.2 hx.1 hx.2) (x := (l1, l4)) ⟨hl1, hl4⟩
abbrev okt_put_7 (x : Int × Int × Int × Int) : Prop := R32 x.1 ∧ R32 x.2.1 ∧ rg .boolean x.2.2.1 ∧ R32 x.2.2.2
abbrev lvt_put_7 (Γ : Gm) (x : Int × Int × Int × Int) : List (Nat × Value) := [(0, vA (mg Γ) 21), (1, vI x.1), (2, vI x.2.1), (3, vI x.2.2.1), (4, vI x.2.2.2)]
noncomputable def t_put_71 {A : Type} (k_79 : Int → Int → Int → Mo TS A) (l1 : Int) (l3 : Int) (l4 : Int) (k0 : Int) (k1 : Int) : Mo TS ((Int × Int × Int × Int) ⊕ A) :=
  pr (.inl (l1, (w32 (k1 + k0)), l3, (w32 (l4 + 8))))
theorem st_put_71 {Γ : Gm} {h : CH} {d : Nat} (hT : HT h) (o : Ok Γ "LazyForgeModel" cX11_put 6 (Option.some Jvm.ClassFile.FieldType.int) (d + 0)) {A : Type} {K : A → TS → Prop}  (k_79 : Int → Int → Int → Mo TS A) (hk_79 : ∀ (l1 : Int) (l2 : Int) (l3 : Int), R32 l1 → R32 l2 → rg .boolean l3 → Sx Γ (fun t => (h, t)) K 79 [(0, vA (mg Γ) 21), (1, vI l1), (2, vI l2), (3, vI l3)] [] (k_79 l1 l2 l3)) (l1 : Int) (l3 : Int) (l4 : Int) (k0 : Int) (k1 : Int) (hl1 : R32 l1) (hl3 : rg .boolean l3) (hl4 : R32 l4) (hk0 : rg .boolean k0) (hk1 : R32 k1) : Sx Γ (fun t => (h, t)) (KL Γ (fun t => (h, t)) okt_put_7 K 7 (lvt_put_7 Γ) []) 71 [(0, vA (mg Γ) 21), (1, vI l1), (3, vI l3), (4, vI l4)] [vI k0, vI k1] (t_put_71 k_79 l1 l3 l4 k0 k1) := by
  unfold t_put_71
  refine s_iadd o dX11_put_71 ?_
  refine r_istore_n o dX11_put_72 rfl rfl ⟨(Nat.ne_of_beq_eq_false rfl), (fun _ => (vA_cat (mg Γ) 21)), ⟨(Nat.ne_of_beq_eq_false rfl), (fun _ => rfl), ⟨(Nat.ne_of_beq_eq_false rfl), (fun _ => rfl), ⟨(Nat.ne_of_beq_eq_false rfl), (fun _ => rfl), trivial⟩⟩⟩⟩ ?_
  refine r_iinc (j := 4) o dX11_put_73 rfl rfl [(2, vI (w32 (k1 + k0))), (0, vA (mg Γ) 21), (1, vI l1), (3, vI l3)] [0, 1, 2, 3] rfl ⟨(Nat.ne_of_beq_eq_false rfl), (fun _ => rfl), ⟨(Nat.ne_of_beq_eq_false rfl), (fun _ => (vA_cat (mg Γ) 21)), ⟨(Nat.ne_of_beq_eq_false rfl), (fun _ => rfl), ⟨(Nat.ne_of_beq_eq_false rfl), (fun _ => rfl), trivial⟩⟩⟩⟩ ?_
  refine s_goto (tgt := 7) o dX11_put_76 (by decide) ?_
  refine r_to [(0, vA (mg Γ) 21), (1, vI l1), (2, vI (w32 (k1 + k0))), (3, vI l3), (4, vI (w32 (l4 + 8)))] [2, 3, 1, 4, 0] rfl ?_
  exact s_back (⟨hl1, (w32_R _), hl3, (w32_R _)⟩) rfl
noncomputable def t_put_59 {A : Type} (k_79 : Int → Int → Int → Mo TS A) (l1 : Int) (l2 : Int) (l4 : Int) (l5 : Int) (k0 : Int) : Mo TS ((Int × Int × Int × Int) ⊕ A) :=
  if ¬ l5 = 0 then
    t_put_71 k_79 l1 k0 l4 1 l2
  else
    t_put_71 k_79 l1 k0 l4 0 l2
theorem st_put_59 {Γ : Gm} {h : CH} {d : Nat} (hT : HT h) (o : Ok Γ "LazyForgeModel" cX11_put 6 (Option.some Jvm.ClassFile.FieldType.int) (d + 0)) {A : Type} {K : A → TS → Prop}  (k_79 : Int → Int → Int → Mo TS A) (hk_79 : ∀ (l1 : Int) (l2 : Int) (l3 : Int), R32 l1 → R32 l2 → rg .boolean l3 → Sx Γ (fun t => (h, t)) K 79 [(0, vA (mg Γ) 21), (1, vI l1), (2, vI l2), (3, vI l3)] [] (k_79 l1 l2 l3)) (l1 : Int) (l2 : Int) (l4 : Int) (l5 : Int) (k0 : Int) (hl1 : R32 l1) (hl2 : R32 l2) (hl4 : R32 l4) (hl5 : R32 l5) (hk0 : rg .boolean k0) : Sx Γ (fun t => (h, t)) (KL Γ (fun t => (h, t)) okt_put_7 K 7 (lvt_put_7 Γ) []) 59 [(0, vA (mg Γ) 21), (1, vI l1), (2, vI l2), (4, vI l4), (5, vI l5)] [vI k0] (t_put_59 k_79 l1 l2 l4 l5 k0) := by
  unfold t_put_59
  refine r_istore_n o dX11_put_59 rfl rfl ⟨(Nat.ne_of_beq_eq_false rfl), (fun _ => (vA_cat (mg Γ) 21)), ⟨(Nat.ne_of_beq_eq_false rfl), (fun _ => rfl), ⟨(Nat.ne_of_beq_eq_false rfl), (fun _ => rfl), ⟨(Nat.ne_of_beq_eq_false rfl), (fun _ => rfl), ⟨(Nat.ne_of_beq_eq_false rfl), (fun _ => rfl), trivial⟩⟩⟩⟩⟩ ?_
  refine s_iload_n o dX11_put_60 rfl 3 rfl ?_
  refine s_iload o dX11_put_61 5 rfl ?_
  refine s_if_ne (tgt := 70) o dX11_put_63 (by decide) hl5 ?_ ?_
  · refine s_iconst o dX11_put_70 ?_
    refine r_to [(0, vA (mg Γ) 21), (1, vI l1), (3, vI k0), (4, vI l4)] [1, 2, 0, 4] rfl ?_
    exact st_put_71 hT o k_79 hk_79 l1 k0 l4 1 l2 hl1 hk0 hl4 (Or.inr rfl) hl2
  · refine s_iconst o dX11_put_66 ?_
    refine s_goto (tgt := 71) o dX11_put_67 (by decide) ?_
    refine r_to [(0, vA (mg Γ) 21), (1, vI l1), (3, vI k0), (4, vI l4)] [1, 2, 0, 4] rfl ?_
    exact st_put_71 hT o k_79 hk_79 l1 k0 l4 0 l2 hl1 hk0 hl4 (Or.inl rfl) hl2
noncomputable def t_put_54 {A : Type} (k_79 : Int → Int → Int → Mo TS A) (l1 : Int) (l2 : Int) (l4 : Int) (l5 : Int) : Mo TS ((Int × Int × Int × Int) ⊕ A) :=
  t_put_59 k_79 l1 l2 l4 l5 1
theorem st_put_54 {Γ : Gm} {h : CH} {d : Nat} (hT : HT h) (o : Ok Γ "LazyForgeModel" cX11_put 6 (Option.some Jvm.ClassFile.FieldType.int) (d + 0)) {A : Type} {K : A → TS → Prop}  (k_79 : Int → Int → Int → Mo TS A) (hk_79 : ∀ (l1 : Int) (l2 : Int) (l3 : Int), R32 l1 → R32 l2 → rg .boolean l3 → Sx Γ (fun t => (h, t)) K 79 [(0, vA (mg Γ) 21), (1, vI l1), (2, vI l2), (3, vI l3)] [] (k_79 l1 l2 l3)) (l1 : Int) (l2 : Int) (l4 : Int) (l5 : Int) (hl1 : R32 l1) (hl2 : R32 l2) (hl4 : R32 l4) (hl5 : R32 l5) : Sx Γ (fun t => (h, t)) (KL Γ (fun t => (h, t)) okt_put_7 K 7 (lvt_put_7 Γ) []) 54 [(0, vA (mg Γ) 21), (1, vI l1), (2, vI l2), (4, vI l4), (5, vI l5)] [] (t_put_54 k_79 l1 l2 l4 l5) := by
  unfold t_put_54
  refine s_iconst o dX11_put_54 ?_
  refine s_goto (tgt := 59) o dX11_put_55 (by decide) ?_
  exact st_put_59 hT o k_79 hk_79 l1 l2 l4 l5 1 hl1 hl2 hl4 hl5 (Or.inr rfl)
noncomputable def t_put_58 {A : Type} (k_79 : Int → Int → Int → Mo TS A) (l1 : Int) (l2 : Int) (l4 : Int) (l5 : Int) : Mo TS ((Int × Int × Int × Int) ⊕ A) :=
  t_put_59 k_79 l1 l2 l4 l5 0
theorem st_put_58 {Γ : Gm} {h : CH} {d : Nat} (hT : HT h) (o : Ok Γ "LazyForgeModel" cX11_put 6 (Option.some Jvm.ClassFile.FieldType.int) (d + 0)) {A : Type} {K : A → TS → Prop}  (k_79 : Int → Int → Int → Mo TS A) (hk_79 : ∀ (l1 : Int) (l2 : Int) (l3 : Int), R32 l1 → R32 l2 → rg .boolean l3 → Sx Γ (fun t => (h, t)) K 79 [(0, vA (mg Γ) 21), (1, vI l1), (2, vI l2), (3, vI l3)] [] (k_79 l1 l2 l3)) (l1 : Int) (l2 : Int) (l4 : Int) (l5 : Int) (hl1 : R32 l1) (hl2 : R32 l2) (hl4 : R32 l4) (hl5 : R32 l5) : Sx Γ (fun t => (h, t)) (KL Γ (fun t => (h, t)) okt_put_7 K 7 (lvt_put_7 Γ) []) 58 [(0, vA (mg Γ) 21), (1, vI l1), (2, vI l2), (4, vI l4), (5, vI l5)] [] (t_put_58 k_79 l1 l2 l4 l5) := by
  unfold t_put_58
  refine s_iconst o dX11_put_58 ?_
  exact st_put_59 hT o k_79 hk_79 l1 l2 l4 l5 0 hl1 hl2 hl4 hl5 (Or.inl rfl)
noncomputable def t_put_7b {A : Type} (k_79 : Int → Int → Int → Mo TS A) (l1 : Int) (l2 : Int) (l3 : Int) (l4 : Int) : Mo TS ((Int × Int × Int × Int) ⊕ A) :=
  if 32 ≤ l4 then
    lo (k_79 l1 l2 l3)
  else
    if l3 = 0 then
      t_put_58 k_79 l1 l2 l4 (iand (ishr l1 l4) 255)
    else
      if (iand (ishr l1 l4) 255) = 0 then
        t_put_54 k_79 l1 l2 l4 (iand (ishr l1 l4) 255)
      else
        if (iand (ishr l1 l4) 255) = 10 then
          t_put_54 k_79 l1 l2 l4 (iand (ishr l1 l4) 255)
        else
          if (iand (ishr l1 l4) 255) < 32 then
            t_put_58 k_79 l1 l2 l4 (iand (ishr l1 l4) 255)
          else
            if 126 < (iand (ishr l1 l4) 255) then
              t_put_58 k_79 l1 l2 l4 (iand (ishr l1 l4) 255)
            else
              t_put_54 k_79 l1 l2 l4 (iand (ishr l1 l4) 255)
theorem st_put_7b {Γ : Gm} {h : CH} {d : Nat} (hT : HT h) (o : Ok Γ "LazyForgeModel" cX11_put 6 (Option.some Jvm.ClassFile.FieldType.int) (d + 0)) {A : Type} {K : A → TS → Prop} (k_79 : Int → Int → Int → Mo TS A) (hk_79 : ∀ (l1 : Int) (l2 : Int) (l3 : Int), R32 l1 → R32 l2 → rg .boolean l3 → Sx Γ (fun t => (h, t)) K 79 [(0, vA (mg Γ) 21), (1, vI l1), (2, vI l2), (3, vI l3)] [] (k_79 l1 l2 l3)) (l1 : Int) (l2 : Int) (l3 : Int) (l4 : Int) (hl1 : R32 l1) (hl2 : R32 l2) (hl3 : rg .boolean l3) (hl4 : R32 l4) : Sx Γ (fun t => (h, t)) (KL Γ (fun t => (h, t)) okt_put_7 K 7 (lvt_put_7 Γ) []) 7 [(0, vA (mg Γ) 21), (1, vI l1), (2, vI l2), (3, vI l3), (4, vI l4)] [] (t_put_7b k_79 l1 l2 l3 l4) := by
  unfold t_put_7b
  refine s_iload o dX11_put_7 4 rfl ?_
  refine s_bipush o dX11_put_9 rfl ?_
  refine s_icmp_ge (tgt := 79) o dX11_put_11 (by decide) hl4 (r32 rfl) ?_ ?_
  · refine r_to [(0, vA (mg Γ) 21), (1, vI l1), (2, vI l2), (3, vI l3)] [0, 1, 2, 3] rfl ?_
    exact s_lo (hk_79 l1 l2 l3 hl1 hl2 hl3)
  · refine s_iload_n o dX11_put_14 rfl 1 rfl ?_
    refine s_iload o dX11_put_15 4 rfl ?_
    refine s_ishr o dX11_put_17 ?_
    refine s_sipush o dX11_put_18 rfl ?_
    refine s_iand o dX11_put_21 ?_
    refine r_istore o dX11_put_22 rfl ⟨(Nat.ne_of_beq_eq_false rfl), (fun _ => (vA_cat (mg Γ) 21)), ⟨(Nat.ne_of_beq_eq_false rfl), (fun _ => rfl), ⟨(Nat.ne_of_beq_eq_false rfl), (fun _ => rfl), ⟨(Nat.ne_of_beq_eq_false rfl), (fun _ => rfl), ⟨(Nat.ne_of_beq_eq_false rfl), (fun _ => rfl), trivial⟩⟩⟩⟩⟩ ?_
    refine s_iload_n o dX11_put_24 rfl 4 rfl ?_
    refine s_if_eq (tgt := 58) o dX11_put_25 (by decide) (rZ hl3) ?_ ?_
    · refine r_to [(0, vA (mg Γ) 21), (1, vI l1), (2, vI l2), (4, vI l4), (5, vI (iand (ishr l1 l4) 255))] [1, 2, 3, 5, 0] rfl ?_
      exact st_put_58 hT o k_79 hk_79 l1 l2 l4 (iand (ishr l1 l4) 255) hl1 hl2 hl4 (iand_R _ _)
    · refine s_iload o dX11_put_28 0 rfl ?_
      refine s_if_eq (tgt := 54) o dX11_put_30 (by decide) (iand_R _ _) ?_ ?_
      · refine r_to [(0, vA (mg Γ) 21), (1, vI l1), (2, vI l2), (4, vI l4), (5, vI (iand (ishr l1 l4) 255))] [1, 2, 3, 5, 0] rfl ?_
        exact st_put_54 hT o k_79 hk_79 l1 l2 l4 (iand (ishr l1 l4) 255) hl1 hl2 hl4 (iand_R _ _)
      · refine s_iload o dX11_put_33 0 rfl ?_
        refine s_bipush o dX11_put_35 rfl ?_
        refine s_icmp_eq (tgt := 54) o dX11_put_37 (by decide) (iand_R _ _) (r32 rfl) ?_ ?_
        · refine r_to [(0, vA (mg Γ) 21), (1, vI l1), (2, vI l2), (4, vI l4), (5, vI (iand (ishr l1 l4) 255))] [1, 2, 3, 5, 0] rfl ?_
          exact st_put_54 hT o k_79 hk_79 l1 l2 l4 (iand (ishr l1 l4) 255) hl1 hl2 hl4 (iand_R _ _)
        · refine s_iload o dX11_put_40 0 rfl ?_
          refine s_bipush o dX11_put_42 rfl ?_
          refine s_icmp_lt (tgt := 58) o dX11_put_44 (by decide) (iand_R _ _) (r32 rfl) ?_ ?_
          · refine r_to [(0, vA (mg Γ) 21), (1, vI l1), (2, vI l2), (4, vI l4), (5, vI (iand (ishr l1 l4) 255))] [1, 2, 3, 5, 0] rfl ?_
            exact st_put_58 hT o k_79 hk_79 l1 l2 l4 (iand (ishr l1 l4) 255) hl1 hl2 hl4 (iand_R _ _)
          · refine s_iload o dX11_put_47 0 rfl ?_
            refine s_bipush o dX11_put_49 rfl ?_
            refine s_icmp_gt (tgt := 58) o dX11_put_51 (by decide) (iand_R _ _) (r32 rfl) ?_ ?_
            · refine r_to [(0, vA (mg Γ) 21), (1, vI l1), (2, vI l2), (4, vI l4), (5, vI (iand (ishr l1 l4) 255))] [1, 2, 3, 5, 0] rfl ?_
              exact st_put_58 hT o k_79 hk_79 l1 l2 l4 (iand (ishr l1 l4) 255) hl1 hl2 hl4 (iand_R _ _)
            · refine r_to [(0, vA (mg Γ) 21), (1, vI l1), (2, vI l2), (4, vI l4), (5, vI (iand (ishr l1 l4) 255))] [1, 2, 3, 5, 0] rfl ?_
              exact st_put_54 hT o k_79 hk_79 l1 l2 l4 (iand (ishr l1 l4) 255) hl1 hl2 hl4 (iand_R _ _)
noncomputable def t_put_7 {A : Type} (k_79 : Int → Int → Int → Mo TS A) (l1 : Int) (l2 : Int) (l3 : Int) (l4 : Int) : Mo TS A := Loop (fun x => t_put_7b k_79 x.1 x.2.1 x.2.2.1 x.2.2.2) (l1, l2, l3, l4)
theorem st_put_7 {Γ : Gm} {h : CH} {d : Nat} (hT : HT h) (o : Ok Γ "LazyForgeModel" cX11_put 6 (Option.some Jvm.ClassFile.FieldType.int) (d + 0)) {A : Type} {K : A → TS → Prop} (k_79 : Int → Int → Int → Mo TS A) (hk_79 : ∀ (l1 : Int) (l2 : Int) (l3 : Int), R32 l1 → R32 l2 → rg .boolean l3 → Sx Γ (fun t => (h, t)) K 79 [(0, vA (mg Γ) 21), (1, vI l1), (2, vI l2), (3, vI l3)] [] (k_79 l1 l2 l3)) (l1 : Int) (l2 : Int) (l3 : Int) (l4 : Int) (hl1 : R32 l1) (hl2 : R32 l2) (hl3 : rg .boolean l3) (hl4 : R32 l4) : Sx Γ (fun t => (h, t)) K 7 [(0, vA (mg Γ) 21), (1, vI l1), (2, vI l2), (3, vI l3), (4, vI l4)] [] (t_put_7 k_79 l1 l2 l3 l4) :=
  s_loop okt_put_7 (lvt_put_7 Γ) (fun x hx => st_put_7b hT o k_79 hk_79 x.1 x.2.1 x.2.2.1 x.2.2.2 hx.1 hx.2.1 hx.2.2.1 hx.2.2.2) (x := (l1, l2, l3, l4)) ⟨hl1, hl2, hl3, hl4⟩
noncomputable def t_put_105  (l1 : Int) (k0 : Int) : Mo TS Int :=
  bnd (ss 0 k0) fun _ =>
  bnd (gs 0) fun v1 =>
  if v1 ≤ 0 then
    t_put_120
      (bnd (gs 2) fun v2 =>
    pr v2) l1 0
  else
    pr 0
theorem st_put_105 {Γ : Gm} {h : CH} {d : Nat} (hT : HT h) (o : Ok Γ "LazyForgeModel" cX11_put 6 (Option.some Jvm.ClassFile.FieldType.int) (d + 0))   (l1 : Int) (k0 : Int) (hl1 : R32 l1) (hk0 : R32 k0) : Sx Γ (fun t => (h, t)) (fun a s => mt Γ = (0, a, ((h, s) : Wd))) 105 [(0, vA (mg Γ) 21), (1, vI l1)] [vI k0, vA (mg Γ) 21] (t_put_105 l1 k0) := by
  unfold t_put_105
  refine r_tpf vI rfl o hT tf_thrown tj_thrown (lw_all_tbl q2504) dX11_put_105 hk0 ty_int ?_
  refine s_aload_n o dX11_put_108 rfl 0 rfl ?_
  refine r_tgf vI rfl o hT tf_thrown tj_thrown (lw_all_tbl q2504) dX11_put_109 (fun v1 hv1 => ?_)
  refine s_if_le (tgt := 117) o dX11_put_112 (by decide) hv1 ?_ ?_
  · refine s_iconst o dX11_put_117 ?_
    refine r_istore o dX11_put_118 rfl ⟨(Nat.ne_of_beq_eq_false rfl), (fun _ => (vA_cat (mg Γ) 21)), ⟨(Nat.ne_of_beq_eq_false rfl), (fun _ => rfl), trivial⟩⟩ ?_
    refine r_to [(0, vA (mg Γ) 21), (1, vI l1), (4, vI 0)] [1, 2, 0] rfl ?_
    refine st_put_120 hT o _ ?_ l1 0 hl1 (r32 rfl)
    · refine s_aload_n o dX11_put_169 rfl 0 rfl ?_
      refine r_tgf vI rfl o hT tf_size tj_size (lw_all_tbl q2506) dX11_put_170 (fun v2 hv2 => ?_)
      exact s_iret o rfl i_int hv2 dX11_put_173 (fun _ hh => hh)
  · refine s_iconst o dX11_put_115 ?_
    exact s_iret o rfl i_int (r32 rfl) dX11_put_116 (fun _ hh => hh)
noncomputable def t_put (l1 : Int) : Mo TS Int :=
  t_put_7
    (fun v1 v2 v3 => if ¬ v3 = 0 then
    bnd (gs 2) fun v4 =>
    if (w32 (v4 + v2)) ≤ 3000 then
      t_put_105 v1 0
    else
      t_put_105 v1 2
  else
    t_put_105 v1 1) l1 0 1 0
theorem st_put (g : gC) (d : Nat) (h : CH) (hT : HT h) (l1 : Int) (hl1 : R32 l1) : SF g yX11_put (Cond.code yX11_put cX11_put 6 (Option.some Jvm.ClassFile.FieldType.int)) (Option.some Jvm.ClassFile.FieldType.int) (d + 0) [vA g 21, vI l1] (fun t => (h, t)) (t_put l1) := by
  refine SF.of (lv := [(0, vA g 21), (1, vI l1)]) (by decide) (wt_A (wt_I wt_0)) rfl (by simp only [la_A, la_I, la_J, la_0]) (fun Γ hg hnm o => ?_)
  subst hg
  have o : Ok Γ "LazyForgeModel" cX11_put 6 (Option.some Jvm.ClassFile.FieldType.int) (d + 0) := o
  unfold t_put
  refine s_iconst o dX11_put_0 ?_
  refine r_istore_n o dX11_put_1 rfl rfl ⟨(Nat.ne_of_beq_eq_false rfl), (fun _ => (vA_cat (mg Γ) 21)), ⟨(Nat.ne_of_beq_eq_false rfl), (fun _ => rfl), trivial⟩⟩ ?_
  refine s_iconst o dX11_put_2 ?_
  refine r_istore_n o dX11_put_3 rfl rfl ⟨(Nat.ne_of_beq_eq_false rfl), (fun _ => rfl), ⟨(Nat.ne_of_beq_eq_false rfl), (fun _ => (vA_cat (mg Γ) 21)), ⟨(Nat.ne_of_beq_eq_false rfl), (fun _ => rfl), trivial⟩⟩⟩ ?_
  refine s_iconst o dX11_put_4 ?_
  refine r_istore o dX11_put_5 rfl ⟨(Nat.ne_of_beq_eq_false rfl), (fun _ => rfl), ⟨(Nat.ne_of_beq_eq_false rfl), (fun _ => rfl), ⟨(Nat.ne_of_beq_eq_false rfl), (fun _ => (vA_cat (mg Γ) 21)), ⟨(Nat.ne_of_beq_eq_false rfl), (fun _ => rfl), trivial⟩⟩⟩⟩ ?_
  refine r_to [(0, vA (mg Γ) 21), (1, vI l1), (2, vI 0), (3, vI 1), (4, vI 0)] [3, 4, 2, 1, 0] rfl ?_
  refine st_put_7 hT o _ ?_ l1 0 1 0 hl1 (r32 rfl) (Or.inr rfl) (r32 rfl)
  · intro v1 v2 v3 hv1 hv2 hv3
    refine s_aload_n o dX11_put_79 rfl 0 rfl ?_
    refine s_iload_n o dX11_put_80 rfl 3 rfl ?_
    refine s_if_ne (tgt := 88) o dX11_put_81 (by decide) (rZ hv3) ?_ ?_
    · refine s_aload_n o dX11_put_88 rfl 0 rfl ?_
      refine r_tgf vI rfl o hT tf_size tj_size (lw_all_tbl q2506) dX11_put_89 (fun v4 hv4 => ?_)
      refine s_iload_n o dX11_put_92 rfl 2 rfl ?_
      refine s_iadd o dX11_put_93 ?_
      refine s_sipush o dX11_put_94 rfl ?_
      refine s_icmp_le (tgt := 104) o dX11_put_97 (by decide) (w32_R _) (r32 rfl) ?_ ?_
      · refine s_iconst o dX11_put_104 ?_
        refine r_to [(0, vA (mg Γ) 21), (1, vI v1)] [0, 1] rfl ?_
        exact st_put_105 hT o v1 0 hv1 (r32 rfl)
      · refine s_iconst o dX11_put_100 ?_
        refine s_goto (tgt := 105) o dX11_put_101 (by decide) ?_
        refine r_to [(0, vA (mg Γ) 21), (1, vI v1)] [0, 1] rfl ?_
        exact st_put_105 hT o v1 2 hv1 (r32 rfl)
    · refine s_iconst o dX11_put_84 ?_
      refine s_goto (tgt := 105) o dX11_put_85 (by decide) ?_
      refine r_to [(0, vA (mg Γ) 21), (1, vI v1)] [0, 1] rfl ?_
      exact st_put_105 hT o v1 1 hv1 (r32 rfl)
theorem dX11_end_0 : decode cX11_end 0 = .ok (.aload_n 0, 1) := by decide +kernel
theorem dX11_end_1 : decode cX11_end 1 = .ok (.iload_n 1, 1) := by decide +kernel
theorem dX11_end_2 : decode cX11_end 2 = .ok (.ifCond .lt 11, 3) := by decide +kernel
theorem dX11_end_5 : decode cX11_end 5 = .ok (.iload_n 1, 1) := by decide +kernel
theorem dX11_end_6 : decode cX11_end 6 = .ok (.aload_n 0, 1) := by decide +kernel
theorem dX11_end_7 : decode cX11_end 7 = .ok (.getfield 254, 3) := by decide +kernel
theorem dX11_end_10 : decode cX11_end 10 = .ok (.if_icmp .le 7, 3) := by decide +kernel
theorem dX11_end_13 : decode cX11_end 13 = .ok (.iconst 1, 1) := by decide +kernel
theorem dX11_end_14 : decode cX11_end 14 = .ok (.goto 4, 3) := by decide +kernel
theorem dX11_end_17 : decode cX11_end 17 = .ok (.iconst 0, 1) := by decide +kernel
theorem dX11_end_18 : decode cX11_end 18 = .ok (.putfield 251, 3) := by decide +kernel
theorem dX11_end_21 : decode cX11_end 21 = .ok (.aload_n 0, 1) := by decide +kernel
theorem dX11_end_22 : decode cX11_end 22 = .ok (.getfield 251, 3) := by decide +kernel
theorem dX11_end_25 : decode cX11_end 25 = .ok (.ifCond .ne 8, 3) := by decide +kernel
theorem dX11_end_28 : decode cX11_end 28 = .ok (.aload_n 0, 1) := by decide +kernel
theorem dX11_end_29 : decode cX11_end 29 = .ok (.iload_n 1, 1) := by decide +kernel
theorem dX11_end_30 : decode cX11_end 30 = .ok (.putfield 254, 3) := by decide +kernel
theorem dX11_end_33 : decode cX11_end 33 = .ok (.return_, 1) := by decide +kernel
theorem mw_X11_end : MW yX11_end (Cond.code yX11_end cX11_end 2 (Option.none : Option Jvm.ClassFile.FieldType)) cX11_end 2 (Option.none : Option Jvm.ClassFile.FieldType) 1 := ⟨rfl, ⟨(lw_all_tbl q3359), rfl, (lw_all_tbl q173)⟩, rfl, ⟨by decide, by decide⟩, by decide +kernel⟩
noncomputable def t_end_18  (l1 : Int) (k0 : Int) : Mo TS Int :=
  bnd (ss 0 k0) fun _ =>
  bnd (gs 0) fun v1 =>
  if ¬ v1 = 0 then
    pr 0
  else
    bnd (ss 2 l1) fun _ =>
    pr 0
theorem st_end_18 {Γ : Gm} {h : CH} {d : Nat} (hT : HT h) (o : Ok Γ "LazyForgeModel" cX11_end 2 (Option.none : Option Jvm.ClassFile.FieldType) (d + 0))   (l1 : Int) (k0 : Int) (hl1 : R32 l1) (hk0 : rg .boolean k0) : Sx Γ (fun t => (h, t)) (fun a s => mt Γ = (0, a, ((h, s) : Wd))) 18 [(0, vA (mg Γ) 21), (1, vI l1)] [vI k0, vA (mg Γ) 21] (t_end_18 l1 k0) := by
  unfold t_end_18
  refine r_tpf vI rfl o hT tf_thrown tj_thrown (lw_all_tbl q2504) dX11_end_18 (rZ hk0) ty_int ?_
  refine s_aload_n o dX11_end_21 rfl 0 rfl ?_
  refine r_tgf vI rfl o hT tf_thrown tj_thrown (lw_all_tbl q2504) dX11_end_22 (fun v1 hv1 => ?_)
  refine s_if_ne (tgt := 33) o dX11_end_25 (by decide) hv1 ?_ ?_
  · exact s_vret o rfl dX11_end_33 (fun _ hh => hh)
  · refine s_aload_n o dX11_end_28 rfl 0 rfl ?_
    refine s_iload_n o dX11_end_29 rfl 1 rfl ?_
    refine r_tpf vI rfl o hT tf_size tj_size (lw_all_tbl q2506) dX11_end_30 hl1 ty_int ?_
    exact s_vret o rfl dX11_end_33 (fun _ hh => hh)
noncomputable def t_end_13  (l1 : Int) : Mo TS Int :=
  t_end_18 l1 1
theorem st_end_13 {Γ : Gm} {h : CH} {d : Nat} (hT : HT h) (o : Ok Γ "LazyForgeModel" cX11_end 2 (Option.none : Option Jvm.ClassFile.FieldType) (d + 0))   (l1 : Int) (hl1 : R32 l1) : Sx Γ (fun t => (h, t)) (fun a s => mt Γ = (0, a, ((h, s) : Wd))) 13 [(0, vA (mg Γ) 21), (1, vI l1)] [vA (mg Γ) 21] (t_end_13 l1) := by
  unfold t_end_13
  refine s_iconst o dX11_end_13 ?_
  refine s_goto (tgt := 18) o dX11_end_14 (by decide) ?_
  exact st_end_18 hT o l1 1 hl1 (Or.inr rfl)
noncomputable def t_end (l1 : Int) : Mo TS Int :=
  if l1 < 0 then
    t_end_13 l1
  else
    bnd (gs 2) fun v1 =>
    if l1 ≤ v1 then
      t_end_18 l1 0
    else
      t_end_13 l1
theorem st_end (g : gC) (d : Nat) (h : CH) (hT : HT h) (l1 : Int) (hl1 : R32 l1) : SF g yX11_end (Cond.code yX11_end cX11_end 2 (Option.none : Option Jvm.ClassFile.FieldType)) (Option.none : Option Jvm.ClassFile.FieldType) (d + 0) [vA g 21, vI l1] (fun t => (h, t)) (t_end l1) := by
  refine SF.of (lv := [(0, vA g 21), (1, vI l1)]) (by decide) (wt_A (wt_I wt_0)) rfl (by simp only [la_A, la_I, la_J, la_0]) (fun Γ hg hnm o => ?_)
  subst hg
  have o : Ok Γ "LazyForgeModel" cX11_end 2 (Option.none : Option Jvm.ClassFile.FieldType) (d + 0) := o
  unfold t_end
  refine s_aload_n o dX11_end_0 rfl 0 rfl ?_
  refine s_iload_n o dX11_end_1 rfl 1 rfl ?_
  refine s_if_lt (tgt := 13) o dX11_end_2 (by decide) hl1 ?_ ?_
  · exact st_end_13 hT o l1 hl1
  · refine s_iload_n o dX11_end_5 rfl 1 rfl ?_
    refine s_aload_n o dX11_end_6 rfl 0 rfl ?_
    refine r_tgf vI rfl o hT tf_size tj_size (lw_all_tbl q2506) dX11_end_7 (fun v1 hv1 => ?_)
    refine s_icmp_le (tgt := 17) o dX11_end_10 (by decide) hl1 hv1 ?_ ?_
    · refine s_iconst o dX11_end_17 ?_
      exact st_end_18 hT o l1 0 hl1 (Or.inl rfl)
    · exact st_end_13 hT o l1 hl1
theorem dX11_take_0 : decode cX11_take 0 = .ok (.aload_n 0, 1) := by decide +kernel
theorem dX11_take_1 : decode cX11_take 1 = .ok (.iconst 0, 1) := by decide +kernel
theorem dX11_take_2 : decode cX11_take 2 = .ok (.putfield 251, 3) := by decide +kernel
theorem dX11_take_5 : decode cX11_take 5 = .ok (.aload_n 0, 1) := by decide +kernel
theorem dX11_take_6 : decode cX11_take 6 = .ok (.getfield 777, 3) := by decide +kernel
theorem dX11_take_9 : decode cX11_take 9 = .ok (.sipush 3000, 3) := by decide +kernel
theorem dX11_take_12 : decode cX11_take 12 = .ok (.if_icmp .le 5, 3) := by decide +kernel
theorem dX11_take_15 : decode cX11_take 15 = .ok (.iconst (-1), 1) := by decide +kernel
theorem dX11_take_16 : decode cX11_take 16 = .ok (.ireturn, 1) := by decide +kernel
theorem dX11_take_17 : decode cX11_take 17 = .ok (.iconst 0, 1) := by decide +kernel
theorem dX11_take_18 : decode cX11_take 18 = .ok (.istore_n 1, 1) := by decide +kernel
theorem dX11_take_19 : decode cX11_take 19 = .ok (.iload_n 1, 1) := by decide +kernel
theorem dX11_take_20 : decode cX11_take 20 = .ok (.aload_n 0, 1) := by decide +kernel
theorem dX11_take_21 : decode cX11_take 21 = .ok (.getfield 777, 3) := by decide +kernel
theorem dX11_take_24 : decode cX11_take 24 = .ok (.if_icmp .ge 21, 3) := by decide +kernel
theorem dX11_take_27 : decode cX11_take 27 = .ok (.aload_n 0, 1) := by decide +kernel
theorem dX11_take_28 : decode cX11_take 28 = .ok (.getfield 7, 3) := by decide +kernel
theorem dX11_take_31 : decode cX11_take 31 = .ok (.iload_n 1, 1) := by decide +kernel
theorem dX11_take_32 : decode cX11_take 32 = .ok (.aload_n 0, 1) := by decide +kernel
theorem dX11_take_33 : decode cX11_take 33 = .ok (.getfield 13, 3) := by decide +kernel
theorem dX11_take_36 : decode cX11_take 36 = .ok (.iload_n 1, 1) := by decide +kernel
theorem dX11_take_37 : decode cX11_take 37 = .ok (.iaload, 1) := by decide +kernel
theorem dX11_take_38 : decode cX11_take 38 = .ok (.iastore, 1) := by decide +kernel
theorem dX11_take_39 : decode cX11_take 39 = .ok (.iinc 1 1, 3) := by decide +kernel
theorem dX11_take_42 : decode cX11_take 42 = .ok (.goto (-23), 3) := by decide +kernel
theorem dX11_take_45 : decode cX11_take 45 = .ok (.aload_n 0, 1) := by decide +kernel
theorem dX11_take_46 : decode cX11_take 46 = .ok (.aload_n 0, 1) := by decide +kernel
theorem dX11_take_47 : decode cX11_take 47 = .ok (.getfield 777, 3) := by decide +kernel
theorem dX11_take_50 : decode cX11_take 50 = .ok (.putfield 254, 3) := by decide +kernel
theorem dX11_take_53 : decode cX11_take 53 = .ok (.aload_n 0, 1) := by decide +kernel
theorem dX11_take_54 : decode cX11_take 54 = .ok (.getfield 254, 3) := by decide +kernel
theorem dX11_take_57 : decode cX11_take 57 = .ok (.ireturn, 1) := by decide +kernel
theorem mw_X11_take : MW yX11_take (Cond.code yX11_take cX11_take 2 (Option.some Jvm.ClassFile.FieldType.int)) cX11_take 2 (Option.some Jvm.ClassFile.FieldType.int) 0 := ⟨rfl, ⟨(lw_all_tbl q3363), rfl, (lw_all_tbl q173)⟩, rfl, ⟨by decide, by decide⟩, by decide +kernel⟩
abbrev okt_take_19 (x : Int) : Prop := R32 x
abbrev lvt_take_19 (Γ : Gm) (x : Int) : List (Nat × Value) := [(0, vA (mg Γ) 21), (1, vI x)]
noncomputable def t_take_19b {A : Type} (k_45 : Mo TS A) (l1 : Int) : Mo TS ((Int) ⊕ A) :=
  bnd (gs 4) fun v1 =>
  if v1 ≤ l1 then
    lo k_45
  else
    bnd (rd 3 12000 l1) fun v2 =>
    bnd (wr 1 3000 l1 v2) fun _ =>
    pr (.inl (w32 (l1 + 1)))
theorem st_take_19b {Γ : Gm} {h : CH} {d : Nat} (hT : HT h) (o : Ok Γ "LazyForgeModel" cX11_take 2 (Option.some Jvm.ClassFile.FieldType.int) (d + 0)) {A : Type} {K : A → TS → Prop} (k_45 : Mo TS A) (hk_45 : Sx Γ (fun t => (h, t)) K 45 [(0, vA (mg Γ) 21)] [] (k_45)) (l1 : Int) (hl1 : R32 l1) : Sx Γ (fun t => (h, t)) (KL Γ (fun t => (h, t)) okt_take_19 K 19 (lvt_take_19 Γ) []) 19 [(0, vA (mg Γ) 21), (1, vI l1)] [] (t_take_19b k_45 l1) := by
  unfold t_take_19b
  refine s_iload_n o dX11_take_19 rfl 1 rfl ?_
  refine s_aload_n o dX11_take_20 rfl 0 rfl ?_
  refine r_tgf vI rfl o hT tf_outSize tj_outSize (lw_all_tbl q2508) dX11_take_21 (fun v1 hv1 => ?_)
  refine s_icmp_ge (tgt := 45) o dX11_take_24 (by decide) hl1 hv1 ?_ ?_
  · refine r_to [(0, vA (mg Γ) 21)] [0] rfl ?_
    exact s_lo hk_45
  · refine s_aload_n o dX11_take_27 rfl 0 rfl ?_
    refine s_tga (x := 22) o hT tf_text ta_text (lw_all_tbl q2505) dX11_take_28 ?_
    refine s_iload_n o dX11_take_31 rfl 1 rfl ?_
    refine s_aload_n o dX11_take_32 rfl 0 rfl ?_
    refine s_tga (x := 23) o hT tf_out ta_out (lw_all_tbl q2507) dX11_take_33 ?_
    refine s_iload_n o dX11_take_36 rfl 1 rfl ?_
    refine r_tiald o hT tr_out hl1 dX11_take_37 (fun v2 hv2 => ?_)
    refine r_tiast o hT tr_text hl1 hv2 dX11_take_38 ?_
    refine r_iinc (j := 1) o dX11_take_39 rfl rfl [(0, vA (mg Γ) 21)] [0] rfl ⟨(Nat.ne_of_beq_eq_false rfl), (fun _ => (vA_cat (mg Γ) 21)), trivial⟩ ?_
    refine s_goto (tgt := 19) o dX11_take_42 (by decide) ?_
    refine r_to [(0, vA (mg Γ) 21), (1, vI (w32 (l1 + 1)))] [1, 0] rfl ?_
    exact s_back (w32_R _) rfl
noncomputable def t_take_19 {A : Type} (k_45 : Mo TS A) (l1 : Int) : Mo TS A := Loop (fun x => t_take_19b k_45 x) l1
theorem st_take_19 {Γ : Gm} {h : CH} {d : Nat} (hT : HT h) (o : Ok Γ "LazyForgeModel" cX11_take 2 (Option.some Jvm.ClassFile.FieldType.int) (d + 0)) {A : Type} {K : A → TS → Prop} (k_45 : Mo TS A) (hk_45 : Sx Γ (fun t => (h, t)) K 45 [(0, vA (mg Γ) 21)] [] (k_45)) (l1 : Int) (hl1 : R32 l1) : Sx Γ (fun t => (h, t)) K 19 [(0, vA (mg Γ) 21), (1, vI l1)] [] (t_take_19 k_45 l1) :=
  s_loop okt_take_19 (lvt_take_19 Γ) (fun x hx => st_take_19b hT o k_45 hk_45 x hx) (x := l1) hl1
noncomputable def t_take : Mo TS Int :=
  bnd (ss 0 0) fun _ =>
  bnd (gs 4) fun v1 =>
  if v1 ≤ 3000 then
    t_take_19
      (bnd (gs 4) fun v2 =>
    bnd (ss 2 v2) fun _ =>
    bnd (gs 2) fun v3 =>
    pr v3) 0
  else
    pr (-1)
theorem st_take (g : gC) (d : Nat) (h : CH) (hT : HT h) : SF g yX11_take (Cond.code yX11_take cX11_take 2 (Option.some Jvm.ClassFile.FieldType.int)) (Option.some Jvm.ClassFile.FieldType.int) (d + 0) [vA g 21] (fun t => (h, t)) (t_take) := by
  refine SF.of (lv := [(0, vA g 21)]) (by decide) (wt_A wt_0) rfl (by simp only [la_A, la_I, la_J, la_0]) (fun Γ hg hnm o => ?_)
  subst hg
  have o : Ok Γ "LazyForgeModel" cX11_take 2 (Option.some Jvm.ClassFile.FieldType.int) (d + 0) := o
  unfold t_take
  refine s_aload_n o dX11_take_0 rfl 0 rfl ?_
  refine s_iconst o dX11_take_1 ?_
  refine r_tpf vI rfl o hT tf_thrown tj_thrown (lw_all_tbl q2504) dX11_take_2 (r32 rfl) ty_int ?_
  refine s_aload_n o dX11_take_5 rfl 0 rfl ?_
  refine r_tgf vI rfl o hT tf_outSize tj_outSize (lw_all_tbl q2508) dX11_take_6 (fun v1 hv1 => ?_)
  refine s_sipush o dX11_take_9 rfl ?_
  refine s_icmp_le (tgt := 17) o dX11_take_12 (by decide) hv1 (r32 rfl) ?_ ?_
  · refine s_iconst o dX11_take_17 ?_
    refine r_istore_n o dX11_take_18 rfl rfl ⟨(Nat.ne_of_beq_eq_false rfl), (fun _ => (vA_cat (mg Γ) 21)), trivial⟩ ?_
    refine r_to [(0, vA (mg Γ) 21), (1, vI 0)] [1, 0] rfl ?_
    refine st_take_19 hT o _ ?_ 0 (r32 rfl)
    · refine s_aload_n o dX11_take_45 rfl 0 rfl ?_
      refine s_aload_n o dX11_take_46 rfl 0 rfl ?_
      refine r_tgf vI rfl o hT tf_outSize tj_outSize (lw_all_tbl q2508) dX11_take_47 (fun v2 hv2 => ?_)
      refine r_tpf vI rfl o hT tf_size tj_size (lw_all_tbl q2506) dX11_take_50 hv2 ty_int ?_
      refine s_aload_n o dX11_take_53 rfl 0 rfl ?_
      refine r_tgf vI rfl o hT tf_size tj_size (lw_all_tbl q2506) dX11_take_54 (fun v3 hv3 => ?_)
      exact s_iret o rfl i_int hv3 dX11_take_57 (fun _ hh => hh)
  · refine s_iconst o dX11_take_15 ?_
    exact s_iret o rfl i_int (r32 rfl) dX11_take_16 (fun _ hh => hh)
theorem dX11_fault_0 : decode cX11_fault 0 = .ok (.aload_n 0, 1) := by decide +kernel
theorem dX11_fault_1 : decode cX11_fault 1 = .ok (.iload_n 1, 1) := by decide +kernel
theorem dX11_fault_2 : decode cX11_fault 2 = .ok (.ifCond .lt 8, 3) := by decide +kernel
theorem dX11_fault_5 : decode cX11_fault 5 = .ok (.iload_n 1, 1) := by decide +kernel
theorem dX11_fault_6 : decode cX11_fault 6 = .ok (.iconst 1, 1) := by decide +kernel
theorem dX11_fault_7 : decode cX11_fault 7 = .ok (.if_icmp .le 7, 3) := by decide +kernel
theorem dX11_fault_10 : decode cX11_fault 10 = .ok (.iconst 1, 1) := by decide +kernel
theorem dX11_fault_11 : decode cX11_fault 11 = .ok (.goto 4, 3) := by decide +kernel
theorem dX11_fault_14 : decode cX11_fault 14 = .ok (.iconst 0, 1) := by decide +kernel
theorem dX11_fault_15 : decode cX11_fault 15 = .ok (.putfield 251, 3) := by decide +kernel
theorem dX11_fault_18 : decode cX11_fault 18 = .ok (.aload_n 0, 1) := by decide +kernel
theorem dX11_fault_19 : decode cX11_fault 19 = .ok (.getfield 251, 3) := by decide +kernel
theorem dX11_fault_22 : decode cX11_fault 22 = .ok (.ifCond .le 7, 3) := by decide +kernel
theorem dX11_fault_25 : decode cX11_fault 25 = .ok (.iconst 0, 1) := by decide +kernel
theorem dX11_fault_26 : decode cX11_fault 26 = .ok (.goto 18, 3) := by decide +kernel
theorem dX11_fault_29 : decode cX11_fault 29 = .ok (.iload_n 1, 1) := by decide +kernel
theorem dX11_fault_30 : decode cX11_fault 30 = .ok (.ifCond .ne 10, 3) := by decide +kernel
theorem dX11_fault_33 : decode cX11_fault 33 = .ok (.aload_n 0, 1) := by decide +kernel
theorem dX11_fault_34 : decode cX11_fault 34 = .ok (.getfield 591, 3) := by decide +kernel
theorem dX11_fault_37 : decode cX11_fault 37 = .ok (.goto 7, 3) := by decide +kernel
theorem dX11_fault_40 : decode cX11_fault 40 = .ok (.aload_n 0, 1) := by decide +kernel
theorem dX11_fault_41 : decode cX11_fault 41 = .ok (.getfield 187, 3) := by decide +kernel
theorem dX11_fault_44 : decode cX11_fault 44 = .ok (.ireturn, 1) := by decide +kernel
theorem mw_X11_fault : MW yX11_fault (Cond.code yX11_fault cX11_fault 2 (Option.some Jvm.ClassFile.FieldType.int)) cX11_fault 2 (Option.some Jvm.ClassFile.FieldType.int) 1 := ⟨rfl, ⟨(lw_all_tbl q3367), rfl, (lw_all_tbl q173)⟩, rfl, ⟨by decide, by decide⟩, by decide +kernel⟩
noncomputable def t_fault_15  (l1 : Int) (k0 : Int) : Mo TS Int :=
  bnd (ss 0 k0) fun _ =>
  bnd (gs 0) fun v1 =>
  if v1 ≤ 0 then
    if ¬ l1 = 0 then
      bnd (gs 90) fun v2 =>
      pr v2
    else
      bnd (gs 89) fun v3 =>
      pr v3
  else
    pr 0
theorem st_fault_15 {Γ : Gm} {h : CH} {d : Nat} (hT : HT h) (o : Ok Γ "LazyForgeModel" cX11_fault 2 (Option.some Jvm.ClassFile.FieldType.int) (d + 0))   (l1 : Int) (k0 : Int) (hl1 : R32 l1) (hk0 : rg .boolean k0) : Sx Γ (fun t => (h, t)) (fun a s => mt Γ = (0, a, ((h, s) : Wd))) 15 [(0, vA (mg Γ) 21), (1, vI l1)] [vI k0, vA (mg Γ) 21] (t_fault_15 l1 k0) := by
  unfold t_fault_15
  refine r_tpf vI rfl o hT tf_thrown tj_thrown (lw_all_tbl q2504) dX11_fault_15 (rZ hk0) ty_int ?_
  refine s_aload_n o dX11_fault_18 rfl 0 rfl ?_
  refine r_tgf vI rfl o hT tf_thrown tj_thrown (lw_all_tbl q2504) dX11_fault_19 (fun v1 hv1 => ?_)
  refine s_if_le (tgt := 29) o dX11_fault_22 (by decide) hv1 ?_ ?_
  · refine s_iload_n o dX11_fault_29 rfl 1 rfl ?_
    refine s_if_ne (tgt := 40) o dX11_fault_30 (by decide) hl1 ?_ ?_
    · refine s_aload_n o dX11_fault_40 rfl 0 rfl ?_
      refine r_tgf vI rfl o hT tf_lastPlace tj_lastPlace (lw_all_tbl q2594) dX11_fault_41 (fun v2 hv2 => ?_)
      exact s_iret o rfl i_int hv2 dX11_fault_44 (fun _ hh => hh)
    · refine s_aload_n o dX11_fault_33 rfl 0 rfl ?_
      refine r_tgf vI rfl o hT tf_lastFault tj_lastFault (lw_all_tbl q2593) dX11_fault_34 (fun v3 hv3 => ?_)
      refine s_goto (tgt := 44) o dX11_fault_37 (by decide) ?_
      exact s_iret o rfl i_int hv3 dX11_fault_44 (fun _ hh => hh)
  · refine s_iconst o dX11_fault_25 ?_
    refine s_goto (tgt := 44) o dX11_fault_26 (by decide) ?_
    exact s_iret o rfl i_int (r32 rfl) dX11_fault_44 (fun _ hh => hh)
noncomputable def t_fault_10  (l1 : Int) : Mo TS Int :=
  t_fault_15 l1 1
theorem st_fault_10 {Γ : Gm} {h : CH} {d : Nat} (hT : HT h) (o : Ok Γ "LazyForgeModel" cX11_fault 2 (Option.some Jvm.ClassFile.FieldType.int) (d + 0))   (l1 : Int) (hl1 : R32 l1) : Sx Γ (fun t => (h, t)) (fun a s => mt Γ = (0, a, ((h, s) : Wd))) 10 [(0, vA (mg Γ) 21), (1, vI l1)] [vA (mg Γ) 21] (t_fault_10 l1) := by
  unfold t_fault_10
  refine s_iconst o dX11_fault_10 ?_
  refine s_goto (tgt := 15) o dX11_fault_11 (by decide) ?_
  exact st_fault_15 hT o l1 1 hl1 (Or.inr rfl)
noncomputable def t_fault (l1 : Int) : Mo TS Int :=
  if l1 < 0 then
    t_fault_10 l1
  else
    if l1 ≤ 1 then
      t_fault_15 l1 0
    else
      t_fault_10 l1
theorem st_fault (g : gC) (d : Nat) (h : CH) (hT : HT h) (l1 : Int) (hl1 : R32 l1) : SF g yX11_fault (Cond.code yX11_fault cX11_fault 2 (Option.some Jvm.ClassFile.FieldType.int)) (Option.some Jvm.ClassFile.FieldType.int) (d + 0) [vA g 21, vI l1] (fun t => (h, t)) (t_fault l1) := by
  refine SF.of (lv := [(0, vA g 21), (1, vI l1)]) (by decide) (wt_A (wt_I wt_0)) rfl (by simp only [la_A, la_I, la_J, la_0]) (fun Γ hg hnm o => ?_)
  subst hg
  have o : Ok Γ "LazyForgeModel" cX11_fault 2 (Option.some Jvm.ClassFile.FieldType.int) (d + 0) := o
  unfold t_fault
  refine s_aload_n o dX11_fault_0 rfl 0 rfl ?_
  refine s_iload_n o dX11_fault_1 rfl 1 rfl ?_
  refine s_if_lt (tgt := 10) o dX11_fault_2 (by decide) hl1 ?_ ?_
  · exact st_fault_10 hT o l1 hl1
  · refine s_iload_n o dX11_fault_5 rfl 1 rfl ?_
    refine s_iconst o dX11_fault_6 ?_
    refine s_icmp_le (tgt := 14) o dX11_fault_7 (by decide) hl1 (r32 rfl) ?_ ?_
    · refine s_iconst o dX11_fault_14 ?_
      exact st_fault_15 hT o l1 0 hl1 (Or.inl rfl)
    · exact st_fault_10 hT o l1 hl1
theorem dX11_letters_0 : decode cX11_letters 0 = .ok (.aload_n 0, 1) := by decide +kernel
theorem dX11_letters_1 : decode cX11_letters 1 = .ok (.getfield 780, 3) := by decide +kernel
theorem dX11_letters_4 : decode cX11_letters 4 = .ok (.sipush 12001, 3) := by decide +kernel
theorem dX11_letters_7 : decode cX11_letters 7 = .ok (.if_icmp .ge 23, 3) := by decide +kernel
theorem dX11_letters_10 : decode cX11_letters 10 = .ok (.aload_n 0, 1) := by decide +kernel
theorem dX11_letters_11 : decode cX11_letters 11 = .ok (.getfield 248, 3) := by decide +kernel
theorem dX11_letters_14 : decode cX11_letters 14 = .ok (.aload_n 0, 1) := by decide +kernel
theorem dX11_letters_15 : decode cX11_letters 15 = .ok (.getfield 780, 3) := by decide +kernel
theorem dX11_letters_18 : decode cX11_letters 18 = .ok (.iload_n 1, 1) := by decide +kernel
theorem dX11_letters_19 : decode cX11_letters 19 = .ok (.iastore, 1) := by decide +kernel
theorem dX11_letters_20 : decode cX11_letters 20 = .ok (.aload_n 0, 1) := by decide +kernel
theorem dX11_letters_21 : decode cX11_letters 21 = .ok (.dup, 1) := by decide +kernel
theorem dX11_letters_22 : decode cX11_letters 22 = .ok (.getfield 780, 3) := by decide +kernel
theorem dX11_letters_25 : decode cX11_letters 25 = .ok (.iconst 1, 1) := by decide +kernel
theorem dX11_letters_26 : decode cX11_letters 26 = .ok (.iadd, 1) := by decide +kernel
theorem dX11_letters_27 : decode cX11_letters 27 = .ok (.putfield 780, 3) := by decide +kernel
theorem dX11_letters_30 : decode cX11_letters 30 = .ok (.return_, 1) := by decide +kernel
theorem mw_X11_letters : MW yX11_letters (Cond.code yX11_letters cX11_letters 2 (Option.none : Option Jvm.ClassFile.FieldType)) cX11_letters 2 (Option.none : Option Jvm.ClassFile.FieldType) 1 := ⟨rfl, ⟨(lw_all_tbl q3379), rfl, (lw_all_tbl q173)⟩, rfl, ⟨by decide, by decide⟩, by decide +kernel⟩
noncomputable def t_letters (l1 : Int) : Mo TS Int :=
  bnd (gs 134) fun v1 =>
  if 12001 ≤ v1 then
    pr 0
  else
    bnd (gs 134) fun v2 =>
    bnd (wr 135 12001 v2 l1) fun _ =>
    bnd (gs 134) fun v3 =>
    bnd (ss 134 (w32 (v3 + 1))) fun _ =>
    pr 0
theorem st_letters (g : gC) (d : Nat) (h : CH) (hT : HT h) (l1 : Int) (hl1 : R32 l1) : SF g yX11_letters (Cond.code yX11_letters cX11_letters 2 (Option.none : Option Jvm.ClassFile.FieldType)) (Option.none : Option Jvm.ClassFile.FieldType) (d + 0) [vA g 21, vI l1] (fun t => (h, t)) (t_letters l1) := by
  refine SF.of (lv := [(0, vA g 21), (1, vI l1)]) (by decide) (wt_A (wt_I wt_0)) rfl (by simp only [la_A, la_I, la_J, la_0]) (fun Γ hg hnm o => ?_)
  subst hg
  have o : Ok Γ "LazyForgeModel" cX11_letters 2 (Option.none : Option Jvm.ClassFile.FieldType) (d + 0) := o
  unfold t_letters
  refine s_aload_n o dX11_letters_0 rfl 0 rfl ?_
  refine r_tgf vI rfl o hT tf_drafted tj_drafted (lw_all_tbl q2638) dX11_letters_1 (fun v1 hv1 => ?_)
  refine s_sipush o dX11_letters_4 rfl ?_
  refine s_icmp_ge (tgt := 30) o dX11_letters_7 (by decide) hv1 (r32 rfl) ?_ ?_
  · exact s_vret o rfl dX11_letters_30 (fun _ hh => hh)
  · refine s_aload_n o dX11_letters_10 rfl 0 rfl ?_
    refine s_tga (x := 98) o hT tf_draft ta_draft (lw_all_tbl q2639) dX11_letters_11 ?_
    refine s_aload_n o dX11_letters_14 rfl 0 rfl ?_
    refine r_tgf vI rfl o hT tf_drafted tj_drafted (lw_all_tbl q2638) dX11_letters_15 (fun v2 hv2 => ?_)
    refine s_iload_n o dX11_letters_18 rfl 1 rfl ?_
    refine r_tiast o hT tr_draft hv2 hl1 dX11_letters_19 ?_
    refine s_aload_n o dX11_letters_20 rfl 0 rfl ?_
    refine s_dup o dX11_letters_21 (vA_cat (mg Γ) 21) ?_
    refine r_tgf vI rfl o hT tf_drafted tj_drafted (lw_all_tbl q2638) dX11_letters_22 (fun v3 hv3 => ?_)
    refine s_iconst o dX11_letters_25 ?_
    refine s_iadd o dX11_letters_26 ?_
    refine r_tpf vI rfl o hT tf_drafted tj_drafted (lw_all_tbl q2638) dX11_letters_27 (w32_R _) ty_int ?_
    exact s_vret o rfl dX11_letters_30 (fun _ hh => hh)
theorem dX11_letter_0 : decode cX11_letter 0 = .ok (.aload_n 0, 1) := by decide +kernel
theorem dX11_letter_1 : decode cX11_letter 1 = .ok (.iload_n 1, 1) := by decide +kernel
theorem dX11_letter_2 : decode cX11_letter 2 = .ok (.ifCond .ge 7, 3) := by decide +kernel
theorem dX11_letter_5 : decode cX11_letter 5 = .ok (.iconst 1, 1) := by decide +kernel
theorem dX11_letter_6 : decode cX11_letter 6 = .ok (.goto 4, 3) := by decide +kernel
theorem dX11_letter_9 : decode cX11_letter 9 = .ok (.iconst 0, 1) := by decide +kernel
theorem dX11_letter_10 : decode cX11_letter 10 = .ok (.putfield 251, 3) := by decide +kernel
theorem dX11_letter_13 : decode cX11_letter 13 = .ok (.aload_n 0, 1) := by decide +kernel
theorem dX11_letter_14 : decode cX11_letter 14 = .ok (.getfield 251, 3) := by decide +kernel
theorem dX11_letter_17 : decode cX11_letter 17 = .ok (.ifCond .le 7, 3) := by decide +kernel
theorem dX11_letter_20 : decode cX11_letter 20 = .ok (.iconst 0, 1) := by decide +kernel
theorem dX11_letter_21 : decode cX11_letter 21 = .ok (.goto 21, 3) := by decide +kernel
theorem dX11_letter_24 : decode cX11_letter 24 = .ok (.iload_n 1, 1) := by decide +kernel
theorem dX11_letter_25 : decode cX11_letter 25 = .ok (.aload_n 0, 1) := by decide +kernel
theorem dX11_letter_26 : decode cX11_letter 26 = .ok (.getfield 777, 3) := by decide +kernel
theorem dX11_letter_29 : decode cX11_letter 29 = .ok (.if_icmp .ge 12, 3) := by decide +kernel
theorem dX11_letter_32 : decode cX11_letter 32 = .ok (.aload_n 0, 1) := by decide +kernel
theorem dX11_letter_33 : decode cX11_letter 33 = .ok (.getfield 13, 3) := by decide +kernel
theorem dX11_letter_36 : decode cX11_letter 36 = .ok (.iload_n 1, 1) := by decide +kernel
theorem dX11_letter_37 : decode cX11_letter 37 = .ok (.iaload, 1) := by decide +kernel
theorem dX11_letter_38 : decode cX11_letter 38 = .ok (.goto 4, 3) := by decide +kernel
theorem dX11_letter_41 : decode cX11_letter 41 = .ok (.iconst (-1), 1) := by decide +kernel
theorem dX11_letter_42 : decode cX11_letter 42 = .ok (.ireturn, 1) := by decide +kernel
theorem mw_X11_letter : MW yX11_letter (Cond.code yX11_letter cX11_letter 2 (Option.some Jvm.ClassFile.FieldType.int)) cX11_letter 2 (Option.some Jvm.ClassFile.FieldType.int) 1 := ⟨rfl, ⟨(lw_all_tbl q3415), rfl, (lw_all_tbl q173)⟩, rfl, ⟨by decide, by decide⟩, by decide +kernel⟩
noncomputable def t_letter_10  (l1 : Int) (k0 : Int) : Mo TS Int :=
  bnd (ss 0 k0) fun _ =>
  bnd (gs 0) fun v1 =>
  if v1 ≤ 0 then
    bnd (gs 4) fun v2 =>
    if v2 ≤ l1 then
      pr (-1)
    else
      bnd (rd 3 12000 l1) fun v3 =>
      pr v3
  else
    pr 0
theorem st_letter_10 {Γ : Gm} {h : CH} {d : Nat} (hT : HT h) (o : Ok Γ "LazyForgeModel" cX11_letter 2 (Option.some Jvm.ClassFile.FieldType.int) (d + 0))   (l1 : Int) (k0 : Int) (hl1 : R32 l1) (hk0 : rg .boolean k0) : Sx Γ (fun t => (h, t)) (fun a s => mt Γ = (0, a, ((h, s) : Wd))) 10 [(0, vA (mg Γ) 21), (1, vI l1)] [vI k0, vA (mg Γ) 21] (t_letter_10 l1 k0) := by
  unfold t_letter_10
  refine r_tpf vI rfl o hT tf_thrown tj_thrown (lw_all_tbl q2504) dX11_letter_10 (rZ hk0) ty_int ?_
  refine s_aload_n o dX11_letter_13 rfl 0 rfl ?_
  refine r_tgf vI rfl o hT tf_thrown tj_thrown (lw_all_tbl q2504) dX11_letter_14 (fun v1 hv1 => ?_)
  refine s_if_le (tgt := 24) o dX11_letter_17 (by decide) hv1 ?_ ?_
  · refine s_iload_n o dX11_letter_24 rfl 1 rfl ?_
    refine s_aload_n o dX11_letter_25 rfl 0 rfl ?_
    refine r_tgf vI rfl o hT tf_outSize tj_outSize (lw_all_tbl q2508) dX11_letter_26 (fun v2 hv2 => ?_)
    refine s_icmp_ge (tgt := 41) o dX11_letter_29 (by decide) hl1 hv2 ?_ ?_
    · refine s_iconst o dX11_letter_41 ?_
      exact s_iret o rfl i_int (r32 rfl) dX11_letter_42 (fun _ hh => hh)
    · refine s_aload_n o dX11_letter_32 rfl 0 rfl ?_
      refine s_tga (x := 23) o hT tf_out ta_out (lw_all_tbl q2507) dX11_letter_33 ?_
      refine s_iload_n o dX11_letter_36 rfl 1 rfl ?_
      refine r_tiald o hT tr_out hl1 dX11_letter_37 (fun v3 hv3 => ?_)
      refine s_goto (tgt := 42) o dX11_letter_38 (by decide) ?_
      exact s_iret o rfl i_int hv3 dX11_letter_42 (fun _ hh => hh)
  · refine s_iconst o dX11_letter_20 ?_
    refine s_goto (tgt := 42) o dX11_letter_21 (by decide) ?_
    exact s_iret o rfl i_int (r32 rfl) dX11_letter_42 (fun _ hh => hh)
noncomputable def t_letter (l1 : Int) : Mo TS Int :=
  if 0 ≤ l1 then
    t_letter_10 l1 0
  else
    t_letter_10 l1 1
theorem st_letter (g : gC) (d : Nat) (h : CH) (hT : HT h) (l1 : Int) (hl1 : R32 l1) : SF g yX11_letter (Cond.code yX11_letter cX11_letter 2 (Option.some Jvm.ClassFile.FieldType.int)) (Option.some Jvm.ClassFile.FieldType.int) (d + 0) [vA g 21, vI l1] (fun t => (h, t)) (t_letter l1) := by
  refine SF.of (lv := [(0, vA g 21), (1, vI l1)]) (by decide) (wt_A (wt_I wt_0)) rfl (by simp only [la_A, la_I, la_J, la_0]) (fun Γ hg hnm o => ?_)
  subst hg
  have o : Ok Γ "LazyForgeModel" cX11_letter 2 (Option.some Jvm.ClassFile.FieldType.int) (d + 0) := o
  unfold t_letter
  refine s_aload_n o dX11_letter_0 rfl 0 rfl ?_
  refine s_iload_n o dX11_letter_1 rfl 1 rfl ?_
  refine s_if_ge (tgt := 9) o dX11_letter_2 (by decide) hl1 ?_ ?_
  · refine s_iconst o dX11_letter_9 ?_
    exact st_letter_10 hT o l1 0 hl1 (Or.inl rfl)
  · refine s_iconst o dX11_letter_5 ?_
    refine s_goto (tgt := 10) o dX11_letter_6 (by decide) ?_
    exact st_letter_10 hT o l1 1 hl1 (Or.inr rfl)
theorem dX11_codeOf_0 : decode cX11_codeOf 0 = .ok (.aload_n 0, 1) := by decide +kernel
theorem dX11_codeOf_1 : decode cX11_codeOf 1 = .ok (.getfield 570, 3) := by decide +kernel
theorem dX11_codeOf_4 : decode cX11_codeOf 4 = .ok (.ifCond .ne 7, 3) := by decide +kernel
theorem dX11_codeOf_7 : decode cX11_codeOf 7 = .ok (.iconst 1, 1) := by decide +kernel
theorem dX11_codeOf_8 : decode cX11_codeOf 8 = .ok (.goto 20, 3) := by decide +kernel
theorem dX11_codeOf_11 : decode cX11_codeOf 11 = .ok (.iload_n 1, 1) := by decide +kernel
theorem dX11_codeOf_12 : decode cX11_codeOf 12 = .ok (.ifCond .lt 11, 3) := by decide +kernel
theorem dX11_codeOf_15 : decode cX11_codeOf 15 = .ok (.iload_n 1, 1) := by decide +kernel
theorem dX11_codeOf_16 : decode cX11_codeOf 16 = .ok (.aload_n 0, 1) := by decide +kernel
theorem dX11_codeOf_17 : decode cX11_codeOf 17 = .ok (.getfield 486, 3) := by decide +kernel
theorem dX11_codeOf_20 : decode cX11_codeOf 20 = .ok (.if_icmp .lt 7, 3) := by decide +kernel
theorem dX11_codeOf_23 : decode cX11_codeOf 23 = .ok (.iconst 2, 1) := by decide +kernel
theorem dX11_codeOf_24 : decode cX11_codeOf 24 = .ok (.goto 4, 3) := by decide +kernel
theorem dX11_codeOf_27 : decode cX11_codeOf 27 = .ok (.iconst 0, 1) := by decide +kernel
theorem dX11_codeOf_28 : decode cX11_codeOf 28 = .ok (.ireturn, 1) := by decide +kernel
theorem mw_X11_codeOf : MW yX11_codeOf (Cond.code yX11_codeOf cX11_codeOf 2 (Option.some Jvm.ClassFile.FieldType.int)) cX11_codeOf 2 (Option.some Jvm.ClassFile.FieldType.int) 1 := ⟨rfl, ⟨(lw_all_tbl q3423), rfl, (lw_all_tbl q173)⟩, rfl, ⟨by decide, by decide⟩, by decide +kernel⟩
noncomputable def t_codeOf_23  : Mo TS Int :=
  pr 2
theorem st_codeOf_23 {Γ : Gm} {h : CH} {d : Nat} (hT : HT h) (o : Ok Γ "LazyForgeModel" cX11_codeOf 2 (Option.some Jvm.ClassFile.FieldType.int) (d + 0))   : Sx Γ (fun t => (h, t)) (fun a s => mt Γ = (0, a, ((h, s) : Wd))) 23 [] [] (t_codeOf_23) := by
  unfold t_codeOf_23
  refine s_iconst o dX11_codeOf_23 ?_
  refine s_goto (tgt := 28) o dX11_codeOf_24 (by decide) ?_
  exact s_iret o rfl i_int (r32 rfl) dX11_codeOf_28 (fun _ hh => hh)
noncomputable def t_codeOf (l1 : Int) : Mo TS Int :=
  bnd (gs 88) fun v1 =>
  if ¬ v1 = 0 then
    if l1 < 0 then
      t_codeOf_23
    else
      bnd (gs 46) fun v2 =>
      if l1 < v2 then
        pr 0
      else
        t_codeOf_23
  else
    pr 1
theorem st_codeOf (g : gC) (d : Nat) (h : CH) (hT : HT h) (l1 : Int) (hl1 : R32 l1) : SF g yX11_codeOf (Cond.code yX11_codeOf cX11_codeOf 2 (Option.some Jvm.ClassFile.FieldType.int)) (Option.some Jvm.ClassFile.FieldType.int) (d + 0) [vA g 21, vI l1] (fun t => (h, t)) (t_codeOf l1) := by
  refine SF.of (lv := [(0, vA g 21), (1, vI l1)]) (by decide) (wt_A (wt_I wt_0)) rfl (by simp only [la_A, la_I, la_J, la_0]) (fun Γ hg hnm o => ?_)
  subst hg
  have o : Ok Γ "LazyForgeModel" cX11_codeOf 2 (Option.some Jvm.ClassFile.FieldType.int) (d + 0) := o
  unfold t_codeOf
  refine s_aload_n o dX11_codeOf_0 rfl 0 rfl ?_
  refine r_tgf vI rfl o hT tf_hasProgram tj_hasProgram (lw_all_tbl q2592) dX11_codeOf_1 (fun v1 hv1 => ?_)
  refine s_if_ne (tgt := 11) o dX11_codeOf_4 (by decide) (rZ hv1) ?_ ?_
  · refine s_iload_n o dX11_codeOf_11 rfl 1 rfl ?_
    refine s_if_lt (tgt := 23) o dX11_codeOf_12 (by decide) hl1 ?_ ?_
    · refine r_to [] [] rfl ?_
      exact st_codeOf_23 hT o
    · refine s_iload_n o dX11_codeOf_15 rfl 1 rfl ?_
      refine s_aload_n o dX11_codeOf_16 rfl 0 rfl ?_
      refine r_tgf vI rfl o hT tf_named tj_named (lw_all_tbl q2550) dX11_codeOf_17 (fun v2 hv2 => ?_)
      refine s_icmp_lt (tgt := 27) o dX11_codeOf_20 (by decide) hl1 hv2 ?_ ?_
      · refine s_iconst o dX11_codeOf_27 ?_
        exact s_iret o rfl i_int (r32 rfl) dX11_codeOf_28 (fun _ hh => hh)
      · refine r_to [] [] rfl ?_
        exact st_codeOf_23 hT o
  · refine s_iconst o dX11_codeOf_7 ?_
    refine s_goto (tgt := 28) o dX11_codeOf_8 (by decide) ?_
    exact s_iret o rfl i_int (r32 rfl) dX11_codeOf_28 (fun _ hh => hh)
theorem dX11_result_0 : decode cX11_result 0 = .ok (.aload_n 0, 1) := by decide +kernel
theorem dX11_result_1 : decode cX11_result 1 = .ok (.iload_n 1, 1) := by decide +kernel
theorem dX11_result_2 : decode cX11_result 2 = .ok (.ifCond .lt 9, 3) := by decide +kernel
theorem dX11_result_5 : decode cX11_result 5 = .ok (.iload_n 1, 1) := by decide +kernel
theorem dX11_result_6 : decode cX11_result 6 = .ok (.bipush 9, 2) := by decide +kernel
theorem dX11_result_8 : decode cX11_result 8 = .ok (.if_icmp .le 7, 3) := by decide +kernel
theorem dX11_result_11 : decode cX11_result 11 = .ok (.iconst 1, 1) := by decide +kernel
theorem dX11_result_12 : decode cX11_result 12 = .ok (.goto 4, 3) := by decide +kernel
theorem dX11_result_15 : decode cX11_result 15 = .ok (.iconst 0, 1) := by decide +kernel
theorem dX11_result_16 : decode cX11_result 16 = .ok (.putfield 251, 3) := by decide +kernel
theorem dX11_result_19 : decode cX11_result 19 = .ok (.iload_n 1, 1) := by decide +kernel
theorem dX11_result_20 : decode cX11_result 20 = .ok (.tableswitch 97 0 8 #[52, 57, 62, 67, 72, 77, 82, 87, 92], 52) := by decide +kernel
theorem dX11_result_72 : decode cX11_result 72 = .ok (.aload_n 0, 1) := by decide +kernel
theorem dX11_result_73 : decode cX11_result 73 = .ok (.getfield 605, 3) := by decide +kernel
theorem dX11_result_76 : decode cX11_result 76 = .ok (.ireturn, 1) := by decide +kernel
theorem dX11_result_77 : decode cX11_result 77 = .ok (.aload_n 0, 1) := by decide +kernel
theorem dX11_result_78 : decode cX11_result 78 = .ok (.getfield 608, 3) := by decide +kernel
theorem dX11_result_81 : decode cX11_result 81 = .ok (.ireturn, 1) := by decide +kernel
theorem dX11_result_82 : decode cX11_result 82 = .ok (.aload_n 0, 1) := by decide +kernel
theorem dX11_result_83 : decode cX11_result 83 = .ok (.getfield 733, 3) := by decide +kernel
theorem dX11_result_86 : decode cX11_result 86 = .ok (.ireturn, 1) := by decide +kernel
theorem dX11_result_87 : decode cX11_result 87 = .ok (.aload_n 0, 1) := by decide +kernel
theorem dX11_result_88 : decode cX11_result 88 = .ok (.getfield 626, 3) := by decide +kernel
theorem dX11_result_91 : decode cX11_result 91 = .ok (.ireturn, 1) := by decide +kernel
theorem dX11_result_92 : decode cX11_result 92 = .ok (.aload_n 0, 1) := by decide +kernel
theorem dX11_result_93 : decode cX11_result 93 = .ok (.getfield 641, 3) := by decide +kernel
theorem dX11_result_96 : decode cX11_result 96 = .ok (.ireturn, 1) := by decide +kernel
theorem dX11_result_97 : decode cX11_result 97 = .ok (.aload_n 0, 1) := by decide +kernel
theorem dX11_result_98 : decode cX11_result 98 = .ok (.getfield 644, 3) := by decide +kernel
theorem dX11_result_101 : decode cX11_result 101 = .ok (.ireturn, 1) := by decide +kernel
theorem dX11_result_102 : decode cX11_result 102 = .ok (.aload_n 0, 1) := by decide +kernel
theorem dX11_result_103 : decode cX11_result 103 = .ok (.getfield 647, 3) := by decide +kernel
theorem dX11_result_106 : decode cX11_result 106 = .ok (.ireturn, 1) := by decide +kernel
theorem dX11_result_107 : decode cX11_result 107 = .ok (.aload_n 0, 1) := by decide +kernel
theorem dX11_result_108 : decode cX11_result 108 = .ok (.getfield 740, 3) := by decide +kernel
theorem dX11_result_111 : decode cX11_result 111 = .ok (.ireturn, 1) := by decide +kernel
theorem dX11_result_112 : decode cX11_result 112 = .ok (.aload_n 0, 1) := by decide +kernel
theorem dX11_result_113 : decode cX11_result 113 = .ok (.getfield 709, 3) := by decide +kernel
theorem dX11_result_116 : decode cX11_result 116 = .ok (.ireturn, 1) := by decide +kernel
theorem dX11_result_117 : decode cX11_result 117 = .ok (.aload_n 0, 1) := by decide +kernel
theorem dX11_result_118 : decode cX11_result 118 = .ok (.getfield 251, 3) := by decide +kernel
theorem dX11_result_121 : decode cX11_result 121 = .ok (.ifCond .le 7, 3) := by decide +kernel
theorem dX11_result_124 : decode cX11_result 124 = .ok (.iconst 0, 1) := by decide +kernel
theorem dX11_result_125 : decode cX11_result 125 = .ok (.goto 7, 3) := by decide +kernel
theorem dX11_result_128 : decode cX11_result 128 = .ok (.aload_n 0, 1) := by decide +kernel
theorem dX11_result_129 : decode cX11_result 129 = .ok (.getfield 760, 3) := by decide +kernel
theorem dX11_result_132 : decode cX11_result 132 = .ok (.ireturn, 1) := by decide +kernel
theorem mw_X11_result : MW yX11_result (Cond.code yX11_result cX11_result 2 (Option.some Jvm.ClassFile.FieldType.int)) cX11_result 2 (Option.some Jvm.ClassFile.FieldType.int) 1 := ⟨rfl, ⟨(lw_all_tbl q3435), rfl, (lw_all_tbl q173)⟩, rfl, ⟨by decide, by decide⟩, by decide +kernel⟩
noncomputable def t_result_16  (l1 : Int) (k0 : Int) : Mo TS Int :=
  bnd (ss 0 k0) fun _ =>
  if l1 = 0 then
    bnd (gs 111) fun v2 =>
    pr v2
  else
    if l1 = 1 then
      bnd (gs 112) fun v4 =>
      pr v4
    else
      if l1 = 2 then
        bnd (gs 104) fun v6 =>
        pr v6
      else
        if l1 = 3 then
          bnd (gs 100) fun v8 =>
          pr v8
        else
          if l1 = 4 then
            bnd (gs 105) fun v10 =>
            pr v10
          else
            if l1 = 5 then
              bnd (gs 106) fun v12 =>
              pr v12
            else
              if l1 = 6 then
                bnd (gs 107) fun v14 =>
                pr v14
              else
                if l1 = 7 then
                  bnd (gs 108) fun v16 =>
                  pr v16
                else
                  if l1 = 8 then
                    bnd (gs 109) fun v18 =>
                    pr v18
                  else
                    bnd (gs 0) fun v19 =>
                    if v19 ≤ 0 then
                      bnd (gs 113) fun v20 =>
                      pr v20
                    else
                      pr 0
theorem st_result_16 {Γ : Gm} {h : CH} {d : Nat} (hT : HT h) (o : Ok Γ "LazyForgeModel" cX11_result 2 (Option.some Jvm.ClassFile.FieldType.int) (d + 0))   (l1 : Int) (k0 : Int) (hl1 : R32 l1) (hk0 : rg .boolean k0) : Sx Γ (fun t => (h, t)) (fun a s => mt Γ = (0, a, ((h, s) : Wd))) 16 [(0, vA (mg Γ) 21), (1, vI l1)] [vI k0, vA (mg Γ) 21] (t_result_16 l1 k0) := by
  unfold t_result_16
  refine r_tpf vI rfl o hT tf_thrown tj_thrown (lw_all_tbl q2504) dX11_result_16 (rZ hk0) ty_int ?_
  refine s_iload_n o dX11_result_19 rfl 1 rfl ?_
  refine s_case (P := True) (fun e0 => ?_) (fun e0 => ?_)
  · refine s_tabE o e0 dX11_result_20 (r32 rfl) rfl rfl (tgt := 72) (by decide) ?_
    refine s_aload_n o dX11_result_72 rfl 0 rfl ?_
    refine r_tgf vI rfl o hT tf_how tj_how (lw_all_tbl q2615) dX11_result_73 (fun v2 hv2 => ?_)
    exact s_iret o rfl i_int hv2 dX11_result_76 (fun _ hh => hh)
  · refine s_case (P := True) (fun e2 => ?_) (fun e2 => ?_)
    · refine s_tabE o e2 dX11_result_20 (r32 rfl) rfl rfl (tgt := 77) (by decide) ?_
      refine s_aload_n o dX11_result_77 rfl 0 rfl ?_
      refine r_tgf vI rfl o hT tf_why tj_why (lw_all_tbl q2616) dX11_result_78 (fun v4 hv4 => ?_)
      exact s_iret o rfl i_int hv4 dX11_result_81 (fun _ hh => hh)
    · refine s_case (P := True) (fun e4 => ?_) (fun e4 => ?_)
      · refine s_tabE o e4 dX11_result_20 (r32 rfl) rfl rfl (tgt := 82) (by decide) ?_
        refine s_aload_n o dX11_result_82 rfl 0 rfl ?_
        refine r_tgf vI rfl o hT tf_calls tj_calls (lw_all_tbl q2608) dX11_result_83 (fun v6 hv6 => ?_)
        exact s_iret o rfl i_int hv6 dX11_result_86 (fun _ hh => hh)
      · refine s_case (P := True) (fun e6 => ?_) (fun e6 => ?_)
        · refine s_tabE o e6 dX11_result_20 (r32 rfl) rfl rfl (tgt := 87) (by decide) ?_
          refine s_aload_n o dX11_result_87 rfl 0 rfl ?_
          refine r_tgf vI rfl o hT tf_cells tj_cells (lw_all_tbl q2604) dX11_result_88 (fun v8 hv8 => ?_)
          exact s_iret o rfl i_int hv8 dX11_result_91 (fun _ hh => hh)
        · refine s_case (P := True) (fun e8 => ?_) (fun e8 => ?_)
          · refine s_tabE o e8 dX11_result_20 (r32 rfl) rfl rfl (tgt := 92) (by decide) ?_
            refine s_aload_n o dX11_result_92 rfl 0 rfl ?_
            refine r_tgf vI rfl o hT tf_suspensions tj_suspensions (lw_all_tbl q2609) dX11_result_93 (fun v10 hv10 => ?_)
            exact s_iret o rfl i_int hv10 dX11_result_96 (fun _ hh => hh)
          · refine s_case (P := True) (fun e10 => ?_) (fun e10 => ?_)
            · refine s_tabE o e10 dX11_result_20 (r32 rfl) rfl rfl (tgt := 97) (by decide) ?_
              refine s_aload_n o dX11_result_97 rfl 0 rfl ?_
              refine r_tgf vI rfl o hT tf_partials tj_partials (lw_all_tbl q2610) dX11_result_98 (fun v12 hv12 => ?_)
              exact s_iret o rfl i_int hv12 dX11_result_101 (fun _ hh => hh)
            · refine s_case (P := True) (fun e12 => ?_) (fun e12 => ?_)
              · refine s_tabE o e12 dX11_result_20 (r32 rfl) rfl rfl (tgt := 102) (by decide) ?_
                refine s_aload_n o dX11_result_102 rfl 0 rfl ?_
                refine r_tgf vI rfl o hT tf_objects tj_objects (lw_all_tbl q2611) dX11_result_103 (fun v14 hv14 => ?_)
                exact s_iret o rfl i_int hv14 dX11_result_106 (fun _ hh => hh)
              · refine s_case (P := True) (fun e14 => ?_) (fun e14 => ?_)
                · refine s_tabE o e14 dX11_result_20 (r32 rfl) rfl rfl (tgt := 107) (by decide) ?_
                  refine s_aload_n o dX11_result_107 rfl 0 rfl ?_
                  refine r_tgf vI rfl o hT tf_updates tj_updates (lw_all_tbl q2612) dX11_result_108 (fun v16 hv16 => ?_)
                  exact s_iret o rfl i_int hv16 dX11_result_111 (fun _ hh => hh)
                · refine s_case (P := True) (fun e16 => ?_) (fun e16 => ?_)
                  · refine s_tabE o e16 dX11_result_20 (r32 rfl) rfl rfl (tgt := 112) (by decide) ?_
                    refine s_aload_n o dX11_result_112 rfl 0 rfl ?_
                    refine r_tgf vI rfl o hT tf_atOnce tj_atOnce (lw_all_tbl q2613) dX11_result_113 (fun v18 hv18 => ?_)
                    exact s_iret o rfl i_int hv18 dX11_result_116 (fun _ hh => hh)
                  · refine s_tabOut o dX11_result_20 hl1 (by omega) (tgt := 117) (by decide) ?_
                    refine s_aload_n o dX11_result_117 rfl 0 rfl ?_
                    refine r_tgf vI rfl o hT tf_thrown tj_thrown (lw_all_tbl q2504) dX11_result_118 (fun v19 hv19 => ?_)
                    refine s_if_le (tgt := 128) o dX11_result_121 (by decide) hv19 ?_ ?_
                    · refine s_aload_n o dX11_result_128 rfl 0 rfl ?_
                      refine r_tgf vI rfl o hT tf_rowCounted tj_rowCounted (lw_all_tbl q2617) dX11_result_129 (fun v20 hv20 => ?_)
                      exact s_iret o rfl i_int hv20 dX11_result_132 (fun _ hh => hh)
                    · refine s_iconst o dX11_result_124 ?_
                      refine s_goto (tgt := 132) o dX11_result_125 (by decide) ?_
                      exact s_iret o rfl i_int (r32 rfl) dX11_result_132 (fun _ hh => hh)
noncomputable def t_result_11  (l1 : Int) : Mo TS Int :=
  t_result_16 l1 1
theorem st_result_11 {Γ : Gm} {h : CH} {d : Nat} (hT : HT h) (o : Ok Γ "LazyForgeModel" cX11_result 2 (Option.some Jvm.ClassFile.FieldType.int) (d + 0))   (l1 : Int) (hl1 : R32 l1) : Sx Γ (fun t => (h, t)) (fun a s => mt Γ = (0, a, ((h, s) : Wd))) 11 [(0, vA (mg Γ) 21), (1, vI l1)] [vA (mg Γ) 21] (t_result_11 l1) := by
  unfold t_result_11
  refine s_iconst o dX11_result_11 ?_
  refine s_goto (tgt := 16) o dX11_result_12 (by decide) ?_
  exact st_result_16 hT o l1 1 hl1 (Or.inr rfl)
noncomputable def t_result (l1 : Int) : Mo TS Int :=
  if l1 < 0 then
    t_result_11 l1
  else
    if l1 ≤ 9 then
      t_result_16 l1 0
    else
      t_result_11 l1
theorem st_result (g : gC) (d : Nat) (h : CH) (hT : HT h) (l1 : Int) (hl1 : R32 l1) : SF g yX11_result (Cond.code yX11_result cX11_result 2 (Option.some Jvm.ClassFile.FieldType.int)) (Option.some Jvm.ClassFile.FieldType.int) (d + 0) [vA g 21, vI l1] (fun t => (h, t)) (t_result l1) := by
  refine SF.of (lv := [(0, vA g 21), (1, vI l1)]) (by decide) (wt_A (wt_I wt_0)) rfl (by simp only [la_A, la_I, la_J, la_0]) (fun Γ hg hnm o => ?_)
  subst hg
  have o : Ok Γ "LazyForgeModel" cX11_result 2 (Option.some Jvm.ClassFile.FieldType.int) (d + 0) := o
  unfold t_result
  refine s_aload_n o dX11_result_0 rfl 0 rfl ?_
  refine s_iload_n o dX11_result_1 rfl 1 rfl ?_
  refine s_if_lt (tgt := 11) o dX11_result_2 (by decide) hl1 ?_ ?_
  · exact st_result_11 hT o l1 hl1
  · refine s_iload_n o dX11_result_5 rfl 1 rfl ?_
    refine s_bipush o dX11_result_6 rfl ?_
    refine s_icmp_le (tgt := 15) o dX11_result_8 (by decide) hl1 (r32 rfl) ?_ ?_
    · refine s_iconst o dX11_result_15 ?_
      exact st_result_16 hT o l1 0 hl1 (Or.inl rfl)
    · exact st_result_11 hT o l1 hl1
theorem dX11_number_0 : decode cX11_number 0 = .ok (.aload_n 0, 1) := by decide +kernel
theorem dX11_number_1 : decode cX11_number 1 = .ok (.iload_n 1, 1) := by decide +kernel
theorem dX11_number_2 : decode cX11_number 2 = .ok (.ifCond .lt 11, 3) := by decide +kernel
theorem dX11_number_5 : decode cX11_number 5 = .ok (.iload_n 1, 1) := by decide +kernel
theorem dX11_number_6 : decode cX11_number 6 = .ok (.aload_n 0, 1) := by decide +kernel
theorem dX11_number_7 : decode cX11_number 7 = .ok (.getfield 760, 3) := by decide +kernel
theorem dX11_number_10 : decode cX11_number 10 = .ok (.if_icmp .lt 7, 3) := by decide +kernel
theorem dX11_number_13 : decode cX11_number 13 = .ok (.iconst 1, 1) := by decide +kernel
theorem dX11_number_14 : decode cX11_number 14 = .ok (.goto 4, 3) := by decide +kernel
theorem dX11_number_17 : decode cX11_number 17 = .ok (.iconst 0, 1) := by decide +kernel
theorem dX11_number_18 : decode cX11_number 18 = .ok (.putfield 251, 3) := by decide +kernel
theorem dX11_number_21 : decode cX11_number 21 = .ok (.aload_n 0, 1) := by decide +kernel
theorem dX11_number_22 : decode cX11_number 22 = .ok (.getfield 251, 3) := by decide +kernel
theorem dX11_number_25 : decode cX11_number 25 = .ok (.ifCond .le 7, 3) := by decide +kernel
theorem dX11_number_28 : decode cX11_number 28 = .ok (.iconst 0, 1) := by decide +kernel
theorem dX11_number_29 : decode cX11_number 29 = .ok (.goto 9, 3) := by decide +kernel
theorem dX11_number_32 : decode cX11_number 32 = .ok (.aload_n 0, 1) := by decide +kernel
theorem dX11_number_33 : decode cX11_number 33 = .ok (.getfield 215, 3) := by decide +kernel
theorem dX11_number_36 : decode cX11_number 36 = .ok (.iload_n 1, 1) := by decide +kernel
theorem dX11_number_37 : decode cX11_number 37 = .ok (.iaload, 1) := by decide +kernel
theorem dX11_number_38 : decode cX11_number 38 = .ok (.ireturn, 1) := by decide +kernel
theorem mw_X11_number : MW yX11_number (Cond.code yX11_number cX11_number 2 (Option.some Jvm.ClassFile.FieldType.int)) cX11_number 2 (Option.some Jvm.ClassFile.FieldType.int) 1 := ⟨rfl, ⟨(lw_all_tbl q3439), rfl, (lw_all_tbl q173)⟩, rfl, ⟨by decide, by decide⟩, by decide +kernel⟩
noncomputable def t_number_18  (l1 : Int) (k0 : Int) : Mo TS Int :=
  bnd (ss 0 k0) fun _ =>
  bnd (gs 0) fun v1 =>
  if v1 ≤ 0 then
    bnd (rd 114 1000 l1) fun v2 =>
    pr v2
  else
    pr 0
theorem st_number_18 {Γ : Gm} {h : CH} {d : Nat} (hT : HT h) (o : Ok Γ "LazyForgeModel" cX11_number 2 (Option.some Jvm.ClassFile.FieldType.int) (d + 0))   (l1 : Int) (k0 : Int) (hl1 : R32 l1) (hk0 : rg .boolean k0) : Sx Γ (fun t => (h, t)) (fun a s => mt Γ = (0, a, ((h, s) : Wd))) 18 [(0, vA (mg Γ) 21), (1, vI l1)] [vI k0, vA (mg Γ) 21] (t_number_18 l1 k0) := by
  unfold t_number_18
  refine r_tpf vI rfl o hT tf_thrown tj_thrown (lw_all_tbl q2504) dX11_number_18 (rZ hk0) ty_int ?_
  refine s_aload_n o dX11_number_21 rfl 0 rfl ?_
  refine r_tgf vI rfl o hT tf_thrown tj_thrown (lw_all_tbl q2504) dX11_number_22 (fun v1 hv1 => ?_)
  refine s_if_le (tgt := 32) o dX11_number_25 (by decide) hv1 ?_ ?_
  · refine s_aload_n o dX11_number_32 rfl 0 rfl ?_
    refine s_tga (x := 88) o hT tf_row ta_row (lw_all_tbl q2618) dX11_number_33 ?_
    refine s_iload_n o dX11_number_36 rfl 1 rfl ?_
    refine r_tiald o hT tr_row hl1 dX11_number_37 (fun v2 hv2 => ?_)
    exact s_iret o rfl i_int hv2 dX11_number_38 (fun _ hh => hh)
  · refine s_iconst o dX11_number_28 ?_
    refine s_goto (tgt := 38) o dX11_number_29 (by decide) ?_
    exact s_iret o rfl i_int (r32 rfl) dX11_number_38 (fun _ hh => hh)
noncomputable def t_number_13  (l1 : Int) : Mo TS Int :=
  t_number_18 l1 1
theorem st_number_13 {Γ : Gm} {h : CH} {d : Nat} (hT : HT h) (o : Ok Γ "LazyForgeModel" cX11_number 2 (Option.some Jvm.ClassFile.FieldType.int) (d + 0))   (l1 : Int) (hl1 : R32 l1) : Sx Γ (fun t => (h, t)) (fun a s => mt Γ = (0, a, ((h, s) : Wd))) 13 [(0, vA (mg Γ) 21), (1, vI l1)] [vA (mg Γ) 21] (t_number_13 l1) := by
  unfold t_number_13
  refine s_iconst o dX11_number_13 ?_
  refine s_goto (tgt := 18) o dX11_number_14 (by decide) ?_
  exact st_number_18 hT o l1 1 hl1 (Or.inr rfl)
noncomputable def t_number (l1 : Int) : Mo TS Int :=
  if l1 < 0 then
    t_number_13 l1
  else
    bnd (gs 113) fun v1 =>
    if l1 < v1 then
      t_number_18 l1 0
    else
      t_number_13 l1
theorem st_number (g : gC) (d : Nat) (h : CH) (hT : HT h) (l1 : Int) (hl1 : R32 l1) : SF g yX11_number (Cond.code yX11_number cX11_number 2 (Option.some Jvm.ClassFile.FieldType.int)) (Option.some Jvm.ClassFile.FieldType.int) (d + 0) [vA g 21, vI l1] (fun t => (h, t)) (t_number l1) := by
  refine SF.of (lv := [(0, vA g 21), (1, vI l1)]) (by decide) (wt_A (wt_I wt_0)) rfl (by simp only [la_A, la_I, la_J, la_0]) (fun Γ hg hnm o => ?_)
  subst hg
  have o : Ok Γ "LazyForgeModel" cX11_number 2 (Option.some Jvm.ClassFile.FieldType.int) (d + 0) := o
  unfold t_number
  refine s_aload_n o dX11_number_0 rfl 0 rfl ?_
  refine s_iload_n o dX11_number_1 rfl 1 rfl ?_
  refine s_if_lt (tgt := 13) o dX11_number_2 (by decide) hl1 ?_ ?_
  · exact st_number_13 hT o l1 hl1
  · refine s_iload_n o dX11_number_5 rfl 1 rfl ?_
    refine s_aload_n o dX11_number_6 rfl 0 rfl ?_
    refine r_tgf vI rfl o hT tf_rowCounted tj_rowCounted (lw_all_tbl q2617) dX11_number_7 (fun v1 hv1 => ?_)
    refine s_icmp_lt (tgt := 17) o dX11_number_10 (by decide) hl1 hv1 ?_ ?_
    · refine s_iconst o dX11_number_17 ?_
      exact st_number_18 hT o l1 0 hl1 (Or.inl rfl)
    · exact st_number_13 hT o l1 hl1
theorem dX11_about_0 : decode cX11_about 0 = .ok (.aload_n 0, 1) := by decide +kernel
theorem dX11_about_1 : decode cX11_about 1 = .ok (.iload_n 1, 1) := by decide +kernel
theorem dX11_about_2 : decode cX11_about 2 = .ok (.ifCond .lt 9, 3) := by decide +kernel
theorem dX11_about_5 : decode cX11_about 5 = .ok (.iload_n 1, 1) := by decide +kernel
theorem dX11_about_6 : decode cX11_about 6 = .ok (.bipush 6, 2) := by decide +kernel
theorem dX11_about_8 : decode cX11_about 8 = .ok (.if_icmp .le 7, 3) := by decide +kernel
theorem dX11_about_11 : decode cX11_about 11 = .ok (.iconst 1, 1) := by decide +kernel
theorem dX11_about_12 : decode cX11_about 12 = .ok (.goto 4, 3) := by decide +kernel
theorem dX11_about_15 : decode cX11_about 15 = .ok (.iconst 0, 1) := by decide +kernel
theorem dX11_about_16 : decode cX11_about 16 = .ok (.putfield 251, 3) := by decide +kernel
theorem dX11_about_19 : decode cX11_about 19 = .ok (.iload_n 1, 1) := by decide +kernel
theorem dX11_about_20 : decode cX11_about 20 = .ok (.tableswitch 112 0 6 #[44, 60, 76, 92, 97, 102, 107], 44) := by decide +kernel
theorem dX11_about_64 : decode cX11_about 64 = .ok (.aload_n 0, 1) := by decide +kernel
theorem dX11_about_65 : decode cX11_about 65 = .ok (.getfield 570, 3) := by decide +kernel
theorem dX11_about_68 : decode cX11_about 68 = .ok (.ifCond .eq 10, 3) := by decide +kernel
theorem dX11_about_71 : decode cX11_about 71 = .ok (.aload_n 0, 1) := by decide +kernel
theorem dX11_about_72 : decode cX11_about 72 = .ok (.getfield 486, 3) := by decide +kernel
theorem dX11_about_75 : decode cX11_about 75 = .ok (.goto 4, 3) := by decide +kernel
theorem dX11_about_78 : decode cX11_about 78 = .ok (.iconst 0, 1) := by decide +kernel
theorem dX11_about_79 : decode cX11_about 79 = .ok (.ireturn, 1) := by decide +kernel
theorem dX11_about_80 : decode cX11_about 80 = .ok (.aload_n 0, 1) := by decide +kernel
theorem dX11_about_81 : decode cX11_about 81 = .ok (.getfield 570, 3) := by decide +kernel
theorem dX11_about_84 : decode cX11_about 84 = .ok (.ifCond .eq 10, 3) := by decide +kernel
theorem dX11_about_87 : decode cX11_about 87 = .ok (.aload_n 0, 1) := by decide +kernel
theorem dX11_about_88 : decode cX11_about 88 = .ok (.getfield 348, 3) := by decide +kernel
theorem dX11_about_91 : decode cX11_about 91 = .ok (.goto 4, 3) := by decide +kernel
theorem dX11_about_94 : decode cX11_about 94 = .ok (.iconst 0, 1) := by decide +kernel
theorem dX11_about_95 : decode cX11_about 95 = .ok (.ireturn, 1) := by decide +kernel
theorem dX11_about_96 : decode cX11_about 96 = .ok (.aload_n 0, 1) := by decide +kernel
theorem dX11_about_97 : decode cX11_about 97 = .ok (.getfield 570, 3) := by decide +kernel
theorem dX11_about_100 : decode cX11_about 100 = .ok (.ifCond .eq 10, 3) := by decide +kernel
theorem dX11_about_103 : decode cX11_about 103 = .ok (.aload_n 0, 1) := by decide +kernel
theorem dX11_about_104 : decode cX11_about 104 = .ok (.getfield 333, 3) := by decide +kernel
theorem dX11_about_107 : decode cX11_about 107 = .ok (.goto 4, 3) := by decide +kernel
theorem dX11_about_110 : decode cX11_about 110 = .ok (.iconst 0, 1) := by decide +kernel
theorem dX11_about_111 : decode cX11_about 111 = .ok (.ireturn, 1) := by decide +kernel
theorem dX11_about_112 : decode cX11_about 112 = .ok (.aload_n 0, 1) := by decide +kernel
theorem dX11_about_113 : decode cX11_about 113 = .ok (.getfield 254, 3) := by decide +kernel
theorem dX11_about_116 : decode cX11_about 116 = .ok (.ireturn, 1) := by decide +kernel
theorem dX11_about_117 : decode cX11_about 117 = .ok (.aload_n 0, 1) := by decide +kernel
theorem dX11_about_118 : decode cX11_about 118 = .ok (.getfield 777, 3) := by decide +kernel
theorem dX11_about_121 : decode cX11_about 121 = .ok (.ireturn, 1) := by decide +kernel
theorem dX11_about_122 : decode cX11_about 122 = .ok (.aload_n 0, 1) := by decide +kernel
theorem dX11_about_123 : decode cX11_about 123 = .ok (.getfield 736, 3) := by decide +kernel
theorem dX11_about_126 : decode cX11_about 126 = .ok (.ireturn, 1) := by decide +kernel
theorem dX11_about_127 : decode cX11_about 127 = .ok (.aload_n 0, 1) := by decide +kernel
theorem dX11_about_128 : decode cX11_about 128 = .ok (.getfield 632, 3) := by decide +kernel
theorem dX11_about_131 : decode cX11_about 131 = .ok (.ireturn, 1) := by decide +kernel
theorem dX11_about_132 : decode cX11_about 132 = .ok (.iconst 0, 1) := by decide +kernel
theorem dX11_about_133 : decode cX11_about 133 = .ok (.ireturn, 1) := by decide +kernel
theorem mw_X11_about : MW yX11_about (Cond.code yX11_about cX11_about 2 (Option.some Jvm.ClassFile.FieldType.int)) cX11_about 2 (Option.some Jvm.ClassFile.FieldType.int) 1 := ⟨rfl, ⟨(lw_all_tbl q3447), rfl, (lw_all_tbl q173)⟩, rfl, ⟨by decide, by decide⟩, by decide +kernel⟩
noncomputable def t_about_16  (l1 : Int) (k0 : Int) : Mo TS Int :=
  bnd (ss 0 k0) fun _ =>
  if l1 = 0 then
    bnd (gs 88) fun v2 =>
    if v2 = 0 then
      pr 0
    else
      bnd (gs 46) fun v3 =>
      pr v3
  else
    if l1 = 1 then
      bnd (gs 88) fun v5 =>
      if v5 = 0 then
        pr 0
      else
        bnd (gs 31) fun v6 =>
        pr v6
    else
      if l1 = 2 then
        bnd (gs 88) fun v8 =>
        if v8 = 0 then
          pr 0
        else
          bnd (gs 25) fun v9 =>
          pr v9
      else
        if l1 = 3 then
          bnd (gs 2) fun v11 =>
          pr v11
        else
          if l1 = 4 then
            bnd (gs 4) fun v13 =>
            pr v13
          else
            if l1 = 5 then
              bnd (gs 102) fun v15 =>
              pr v15
            else
              if l1 = 6 then
                bnd (gs 101) fun v17 =>
                pr v17
              else
                pr 0
theorem st_about_16 {Γ : Gm} {h : CH} {d : Nat} (hT : HT h) (o : Ok Γ "LazyForgeModel" cX11_about 2 (Option.some Jvm.ClassFile.FieldType.int) (d + 0))   (l1 : Int) (k0 : Int) (hl1 : R32 l1) (hk0 : rg .boolean k0) : Sx Γ (fun t => (h, t)) (fun a s => mt Γ = (0, a, ((h, s) : Wd))) 16 [(0, vA (mg Γ) 21), (1, vI l1)] [vI k0, vA (mg Γ) 21] (t_about_16 l1 k0) := by
  unfold t_about_16
  refine r_tpf vI rfl o hT tf_thrown tj_thrown (lw_all_tbl q2504) dX11_about_16 (rZ hk0) ty_int ?_
  refine s_iload_n o dX11_about_19 rfl 1 rfl ?_
  refine s_case (P := True) (fun e0 => ?_) (fun e0 => ?_)
  · refine s_tabE o e0 dX11_about_20 (r32 rfl) rfl rfl (tgt := 64) (by decide) ?_
    refine s_aload_n o dX11_about_64 rfl 0 rfl ?_
    refine r_tgf vI rfl o hT tf_hasProgram tj_hasProgram (lw_all_tbl q2592) dX11_about_65 (fun v2 hv2 => ?_)
    refine s_if_eq (tgt := 78) o dX11_about_68 (by decide) (rZ hv2) ?_ ?_
    · refine s_iconst o dX11_about_78 ?_
      exact s_iret o rfl i_int (r32 rfl) dX11_about_79 (fun _ hh => hh)
    · refine s_aload_n o dX11_about_71 rfl 0 rfl ?_
      refine r_tgf vI rfl o hT tf_named tj_named (lw_all_tbl q2550) dX11_about_72 (fun v3 hv3 => ?_)
      refine s_goto (tgt := 79) o dX11_about_75 (by decide) ?_
      exact s_iret o rfl i_int hv3 dX11_about_79 (fun _ hh => hh)
  · refine s_case (P := True) (fun e3 => ?_) (fun e3 => ?_)
    · refine s_tabE o e3 dX11_about_20 (r32 rfl) rfl rfl (tgt := 80) (by decide) ?_
      refine s_aload_n o dX11_about_80 rfl 0 rfl ?_
      refine r_tgf vI rfl o hT tf_hasProgram tj_hasProgram (lw_all_tbl q2592) dX11_about_81 (fun v5 hv5 => ?_)
      refine s_if_eq (tgt := 94) o dX11_about_84 (by decide) (rZ hv5) ?_ ?_
      · refine s_iconst o dX11_about_94 ?_
        exact s_iret o rfl i_int (r32 rfl) dX11_about_95 (fun _ hh => hh)
      · refine s_aload_n o dX11_about_87 rfl 0 rfl ?_
        refine r_tgf vI rfl o hT tf_constructors tj_constructors (lw_all_tbl q2535) dX11_about_88 (fun v6 hv6 => ?_)
        refine s_goto (tgt := 95) o dX11_about_91 (by decide) ?_
        exact s_iret o rfl i_int hv6 dX11_about_95 (fun _ hh => hh)
    · refine s_case (P := True) (fun e6 => ?_) (fun e6 => ?_)
      · refine s_tabE o e6 dX11_about_20 (r32 rfl) rfl rfl (tgt := 96) (by decide) ?_
        refine s_aload_n o dX11_about_96 rfl 0 rfl ?_
        refine r_tgf vI rfl o hT tf_hasProgram tj_hasProgram (lw_all_tbl q2592) dX11_about_97 (fun v8 hv8 => ?_)
        refine s_if_eq (tgt := 110) o dX11_about_100 (by decide) (rZ hv8) ?_ ?_
        · refine s_iconst o dX11_about_110 ?_
          exact s_iret o rfl i_int (r32 rfl) dX11_about_111 (fun _ hh => hh)
        · refine s_aload_n o dX11_about_103 rfl 0 rfl ?_
          refine r_tgf vI rfl o hT tf_parts tj_parts (lw_all_tbl q2529) dX11_about_104 (fun v9 hv9 => ?_)
          refine s_goto (tgt := 111) o dX11_about_107 (by decide) ?_
          exact s_iret o rfl i_int hv9 dX11_about_111 (fun _ hh => hh)
      · refine s_case (P := True) (fun e9 => ?_) (fun e9 => ?_)
        · refine s_tabE o e9 dX11_about_20 (r32 rfl) rfl rfl (tgt := 112) (by decide) ?_
          refine s_aload_n o dX11_about_112 rfl 0 rfl ?_
          refine r_tgf vI rfl o hT tf_size tj_size (lw_all_tbl q2506) dX11_about_113 (fun v11 hv11 => ?_)
          exact s_iret o rfl i_int hv11 dX11_about_116 (fun _ hh => hh)
        · refine s_case (P := True) (fun e11 => ?_) (fun e11 => ?_)
          · refine s_tabE o e11 dX11_about_20 (r32 rfl) rfl rfl (tgt := 117) (by decide) ?_
            refine s_aload_n o dX11_about_117 rfl 0 rfl ?_
            refine r_tgf vI rfl o hT tf_outSize tj_outSize (lw_all_tbl q2508) dX11_about_118 (fun v13 hv13 => ?_)
            exact s_iret o rfl i_int hv13 dX11_about_121 (fun _ hh => hh)
          · refine s_case (P := True) (fun e13 => ?_) (fun e13 => ?_)
            · refine s_tabE o e13 dX11_about_20 (r32 rfl) rfl rfl (tgt := 122) (by decide) ?_
              refine s_aload_n o dX11_about_122 rfl 0 rfl ?_
              refine r_tgf vI rfl o hT tf_allCalls tj_allCalls (lw_all_tbl q2606) dX11_about_123 (fun v15 hv15 => ?_)
              exact s_iret o rfl i_int hv15 dX11_about_126 (fun _ hh => hh)
            · refine s_case (P := True) (fun e15 => ?_) (fun e15 => ?_)
              · refine s_tabE o e15 dX11_about_20 (r32 rfl) rfl rfl (tgt := 127) (by decide) ?_
                refine s_aload_n o dX11_about_127 rfl 0 rfl ?_
                refine r_tgf vI rfl o hT tf_allCells tj_allCells (lw_all_tbl q2605) dX11_about_128 (fun v17 hv17 => ?_)
                exact s_iret o rfl i_int hv17 dX11_about_131 (fun _ hh => hh)
              · refine s_tabOut o dX11_about_20 hl1 (by omega) (tgt := 132) (by decide) ?_
                refine s_iconst o dX11_about_132 ?_
                exact s_iret o rfl i_int (r32 rfl) dX11_about_133 (fun _ hh => hh)
noncomputable def t_about_11  (l1 : Int) : Mo TS Int :=
  t_about_16 l1 1
theorem st_about_11 {Γ : Gm} {h : CH} {d : Nat} (hT : HT h) (o : Ok Γ "LazyForgeModel" cX11_about 2 (Option.some Jvm.ClassFile.FieldType.int) (d + 0))   (l1 : Int) (hl1 : R32 l1) : Sx Γ (fun t => (h, t)) (fun a s => mt Γ = (0, a, ((h, s) : Wd))) 11 [(0, vA (mg Γ) 21), (1, vI l1)] [vA (mg Γ) 21] (t_about_11 l1) := by
  unfold t_about_11
  refine s_iconst o dX11_about_11 ?_
  refine s_goto (tgt := 16) o dX11_about_12 (by decide) ?_
  exact st_about_16 hT o l1 1 hl1 (Or.inr rfl)
noncomputable def t_about (l1 : Int) : Mo TS Int :=
  if l1 < 0 then
    t_about_11 l1
  else
    if l1 ≤ 6 then
      t_about_16 l1 0
    else
      t_about_11 l1
theorem st_about (g : gC) (d : Nat) (h : CH) (hT : HT h) (l1 : Int) (hl1 : R32 l1) : SF g yX11_about (Cond.code yX11_about cX11_about 2 (Option.some Jvm.ClassFile.FieldType.int)) (Option.some Jvm.ClassFile.FieldType.int) (d + 0) [vA g 21, vI l1] (fun t => (h, t)) (t_about l1) := by
  refine SF.of (lv := [(0, vA g 21), (1, vI l1)]) (by decide) (wt_A (wt_I wt_0)) rfl (by simp only [la_A, la_I, la_J, la_0]) (fun Γ hg hnm o => ?_)
  subst hg
  have o : Ok Γ "LazyForgeModel" cX11_about 2 (Option.some Jvm.ClassFile.FieldType.int) (d + 0) := o
  unfold t_about
  refine s_aload_n o dX11_about_0 rfl 0 rfl ?_
  refine s_iload_n o dX11_about_1 rfl 1 rfl ?_
  refine s_if_lt (tgt := 11) o dX11_about_2 (by decide) hl1 ?_ ?_
  · exact st_about_11 hT o l1 hl1
  · refine s_iload_n o dX11_about_5 rfl 1 rfl ?_
    refine s_bipush o dX11_about_6 rfl ?_
    refine s_icmp_le (tgt := 15) o dX11_about_8 (by decide) hl1 (r32 rfl) ?_ ?_
    · refine s_iconst o dX11_about_15 ?_
      exact st_about_16 hT o l1 0 hl1 (Or.inl rfl)
    · exact st_about_11 hT o l1 hl1
