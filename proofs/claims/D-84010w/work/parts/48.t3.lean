/-! PRINTED: the twin, methods 103 to 121 -/
set_option maxRecDepth 100000
theorem dX11_accept_0 : decode cX11_accept 0 = .ok (.iload_n 1, 1) := by decide +kernel
theorem dX11_accept_1 : decode cX11_accept 1 = .ok (.ifCond .eq 17, 3) := by decide +kernel
theorem dX11_accept_4 : decode cX11_accept 4 = .ok (.aload_n 0, 1) := by decide +kernel
theorem dX11_accept_5 : decode cX11_accept 5 = .ok (.getfield 311, 3) := by decide +kernel
theorem dX11_accept_8 : decode cX11_accept 8 = .ok (.ifCond .ne 10, 3) := by decide +kernel
theorem dX11_accept_11 : decode cX11_accept 11 = .ok (.aload_n 0, 1) := by decide +kernel
theorem dX11_accept_12 : decode cX11_accept 12 = .ok (.invokevirtual 321, 3) := by decide +kernel
theorem dX11_accept_15 : decode cX11_accept 15 = .ok (.goto 7, 3) := by decide +kernel
theorem dX11_accept_18 : decode cX11_accept 18 = .ok (.aload_n 0, 1) := by decide +kernel
theorem dX11_accept_19 : decode cX11_accept 19 = .ok (.invokevirtual 324, 3) := by decide +kernel
theorem dX11_accept_22 : decode cX11_accept 22 = .ok (.return_, 1) := by decide +kernel
theorem mw_X11_accept : MW yX11_accept (Cond.code yX11_accept cX11_accept 2 (Option.none : Option Jvm.ClassFile.FieldType)) cX11_accept 2 (Option.none : Option Jvm.ClassFile.FieldType) 1 := ⟨rfl, ⟨(lw_all_tbl q2982), rfl, (lw_all_tbl q173)⟩, rfl, ⟨by decide, by decide⟩, by decide +kernel⟩
noncomputable def t_accept_18  : Mo TS Int :=
  bnd (t_wrong) fun _ =>
  pr 0
theorem st_accept_18 {Γ : Gm} {h : CH} {d : Nat} (hT : HT h) (o : Ok Γ "LazyForgeModel" cX11_accept 2 (Option.none : Option Jvm.ClassFile.FieldType) (d + 4))   : Sx Γ (fun t => (h, t)) (fun a s => mt Γ = (0, a, ((h, s) : Wd))) 18 [(0, vA (mg Γ) 21)] [] (t_accept_18) := by
  unfold t_accept_18
  refine s_aload_n o dX11_accept_18 rfl 0 rfl ?_
  refine s_cv (d := d + 3) (C := "LazyForgeModel") (As := []) (st := []) o (st_wrong (mg Γ) (d + 2) h hT) mw_X11_wrong rfl (Or.inl (lw_all_tbl q2983)) (lw_all_tbl qs66) (lw_all_tbl q2985) (fun t => rc_t o hT t) wt_0 rfl dX11_accept_19 rfl (rs := fun _ => []) (fun _ => rfl) (fun _ _ => ?_)
  exact s_vret o rfl dX11_accept_22 (fun _ hh => hh)
noncomputable def t_accept (l1 : Int) : Mo TS Int :=
  if l1 = 0 then
    t_accept_18
  else
    bnd (gs 10) fun v1 =>
    if ¬ v1 = 0 then
      t_accept_18
    else
      bnd (t_next) fun _ =>
      pr 0
theorem st_accept (g : gC) (d : Nat) (h : CH) (hT : HT h) (l1 : Int) (hl1 : rg .boolean l1) : SF g yX11_accept (Cond.code yX11_accept cX11_accept 2 (Option.none : Option Jvm.ClassFile.FieldType)) (Option.none : Option Jvm.ClassFile.FieldType) (d + 4) [vA g 21, vI l1] (fun t => (h, t)) (t_accept l1) := by
  refine SF.of (lv := [(0, vA g 21), (1, vI l1)]) (by decide) (wt_A (wt_I wt_0)) rfl (by simp only [la_A, la_I, la_J, la_0]) (fun Γ hg hnm o => ?_)
  subst hg
  have o : Ok Γ "LazyForgeModel" cX11_accept 2 (Option.none : Option Jvm.ClassFile.FieldType) (d + 4) := o
  unfold t_accept
  refine s_iload_n o dX11_accept_0 rfl 1 rfl ?_
  refine s_if_eq (tgt := 18) o dX11_accept_1 (by decide) (rZ hl1) ?_ ?_
  · refine r_to [(0, vA (mg Γ) 21)] [0] rfl ?_
    exact st_accept_18 hT o
  · refine s_aload_n o dX11_accept_4 rfl 0 rfl ?_
    refine r_tgf vI rfl o hT tf_fault tj_fault (lw_all_tbl q2514) dX11_accept_5 (fun v1 hv1 => ?_)
    refine s_if_ne (tgt := 18) o dX11_accept_8 (by decide) hv1 ?_ ?_
    · refine r_to [(0, vA (mg Γ) 21)] [0] rfl ?_
      exact st_accept_18 hT o
    · refine s_aload_n o dX11_accept_11 rfl 0 rfl ?_
      refine s_cv (d := d + 3) (C := "LazyForgeModel") (As := []) (st := []) o (st_next (mg Γ) d h hT) mw_X11_next rfl (Or.inl (lw_all_tbl q2932)) (lw_all_tbl qs57) (lw_all_tbl q2934) (fun t => rc_t o hT t) wt_0 rfl dX11_accept_12 rfl (rs := fun _ => []) (fun _ => rfl) (fun _ _ => ?_)
      refine s_goto (tgt := 22) o dX11_accept_15 (by decide) ?_
      exact s_vret o rfl dX11_accept_22 (fun _ hh => hh)
theorem dX11_findTables_0 : decode cX11_findTables 0 = .ok (.iconst 0, 1) := by decide +kernel
theorem dX11_findTables_1 : decode cX11_findTables 1 = .ok (.istore_n 1, 1) := by decide +kernel
theorem dX11_findTables_2 : decode cX11_findTables 2 = .ok (.iload_n 1, 1) := by decide +kernel
theorem dX11_findTables_3 : decode cX11_findTables 3 = .ok (.sipush 256, 3) := by decide +kernel
theorem dX11_findTables_6 : decode cX11_findTables 6 = .ok (.aload_n 0, 1) := by decide +kernel
theorem dX11_findTables_7 : decode cX11_findTables 7 = .ok (.getfield 486, 3) := by decide +kernel
theorem dX11_findTables_10 : decode cX11_findTables 10 = .ok (.imul, 1) := by decide +kernel
theorem dX11_findTables_11 : decode cX11_findTables 11 = .ok (.if_icmp .ge 16, 3) := by decide +kernel
theorem dX11_findTables_14 : decode cX11_findTables 14 = .ok (.aload_n 0, 1) := by decide +kernel
theorem dX11_findTables_15 : decode cX11_findTables 15 = .ok (.getfield 178, 3) := by decide +kernel
theorem dX11_findTables_18 : decode cX11_findTables 18 = .ok (.iload_n 1, 1) := by decide +kernel
theorem dX11_findTables_19 : decode cX11_findTables 19 = .ok (.iconst 0, 1) := by decide +kernel
theorem dX11_findTables_20 : decode cX11_findTables 20 = .ok (.bastore, 1) := by decide +kernel
theorem dX11_findTables_21 : decode cX11_findTables 21 = .ok (.iinc 1 1, 3) := by decide +kernel
theorem dX11_findTables_24 : decode cX11_findTables 24 = .ok (.goto (-22), 3) := by decide +kernel
theorem dX11_findTables_27 : decode cX11_findTables 27 = .ok (.iconst 1, 1) := by decide +kernel
theorem dX11_findTables_28 : decode cX11_findTables 28 = .ok (.istore_n 1, 1) := by decide +kernel
theorem dX11_findTables_29 : decode cX11_findTables 29 = .ok (.iload_n 1, 1) := by decide +kernel
theorem dX11_findTables_30 : decode cX11_findTables 30 = .ok (.ifCond .eq 137, 3) := by decide +kernel
theorem dX11_findTables_33 : decode cX11_findTables 33 = .ok (.iconst 0, 1) := by decide +kernel
theorem dX11_findTables_34 : decode cX11_findTables 34 = .ok (.istore_n 1, 1) := by decide +kernel
theorem dX11_findTables_35 : decode cX11_findTables 35 = .ok (.iconst 0, 1) := by decide +kernel
theorem dX11_findTables_36 : decode cX11_findTables 36 = .ok (.istore_n 2, 1) := by decide +kernel
theorem dX11_findTables_37 : decode cX11_findTables 37 = .ok (.iload_n 2, 1) := by decide +kernel
theorem dX11_findTables_38 : decode cX11_findTables 38 = .ok (.aload_n 0, 1) := by decide +kernel
theorem dX11_findTables_39 : decode cX11_findTables 39 = .ok (.getfield 486, 3) := by decide +kernel
theorem dX11_findTables_42 : decode cX11_findTables 42 = .ok (.if_icmp .ge 122, 3) := by decide +kernel
theorem dX11_findTables_45 : decode cX11_findTables 45 = .ok (.aload_n 0, 1) := by decide +kernel
theorem dX11_findTables_46 : decode cX11_findTables 46 = .ok (.getfield 171, 3) := by decide +kernel
theorem dX11_findTables_49 : decode cX11_findTables 49 = .ok (.iload_n 2, 1) := by decide +kernel
theorem dX11_findTables_50 : decode cX11_findTables 50 = .ok (.iaload, 1) := by decide +kernel
theorem dX11_findTables_51 : decode cX11_findTables 51 = .ok (.istore_n 3, 1) := by decide +kernel
theorem dX11_findTables_52 : decode cX11_findTables 52 = .ok (.iconst 0, 1) := by decide +kernel
theorem dX11_findTables_53 : decode cX11_findTables 53 = .ok (.istore 4, 2) := by decide +kernel
theorem dX11_findTables_55 : decode cX11_findTables 55 = .ok (.iload 4, 2) := by decide +kernel
theorem dX11_findTables_57 : decode cX11_findTables 57 = .ok (.iconst 1, 1) := by decide +kernel
theorem dX11_findTables_58 : decode cX11_findTables 58 = .ok (.iload_n 3, 1) := by decide +kernel
theorem dX11_findTables_59 : decode cX11_findTables 59 = .ok (.ishl, 1) := by decide +kernel
theorem dX11_findTables_60 : decode cX11_findTables 60 = .ok (.if_icmp .ge 98, 3) := by decide +kernel
theorem dX11_findTables_63 : decode cX11_findTables 63 = .ok (.iconst 0, 1) := by decide +kernel
theorem dX11_findTables_64 : decode cX11_findTables 64 = .ok (.istore 5, 2) := by decide +kernel
theorem dX11_findTables_66 : decode cX11_findTables 66 = .ok (.iload 5, 2) := by decide +kernel
theorem dX11_findTables_68 : decode cX11_findTables 68 = .ok (.iload_n 3, 1) := by decide +kernel
theorem dX11_findTables_69 : decode cX11_findTables 69 = .ok (.if_icmp .ge 32, 3) := by decide +kernel
theorem dX11_findTables_72 : decode cX11_findTables 72 = .ok (.aload_n 0, 1) := by decide +kernel
theorem dX11_findTables_73 : decode cX11_findTables 73 = .ok (.getfield 184, 3) := by decide +kernel
theorem dX11_findTables_76 : decode cX11_findTables 76 = .ok (.iload 5, 2) := by decide +kernel
theorem dX11_findTables_78 : decode cX11_findTables 78 = .ok (.iload 4, 2) := by decide +kernel
theorem dX11_findTables_80 : decode cX11_findTables 80 = .ok (.iload 5, 2) := by decide +kernel
theorem dX11_findTables_82 : decode cX11_findTables 82 = .ok (.ishr, 1) := by decide +kernel
theorem dX11_findTables_83 : decode cX11_findTables 83 = .ok (.iconst 1, 1) := by decide +kernel
theorem dX11_findTables_84 : decode cX11_findTables 84 = .ok (.iand, 1) := by decide +kernel
theorem dX11_findTables_85 : decode cX11_findTables 85 = .ok (.iconst 1, 1) := by decide +kernel
theorem dX11_findTables_86 : decode cX11_findTables 86 = .ok (.if_icmp .ne 7, 3) := by decide +kernel
theorem dX11_findTables_89 : decode cX11_findTables 89 = .ok (.iconst 1, 1) := by decide +kernel
theorem dX11_findTables_90 : decode cX11_findTables 90 = .ok (.goto 4, 3) := by decide +kernel
theorem dX11_findTables_93 : decode cX11_findTables 93 = .ok (.iconst 0, 1) := by decide +kernel
theorem dX11_findTables_94 : decode cX11_findTables 94 = .ok (.bastore, 1) := by decide +kernel
theorem dX11_findTables_95 : decode cX11_findTables 95 = .ok (.iinc 5 1, 3) := by decide +kernel
theorem dX11_findTables_98 : decode cX11_findTables 98 = .ok (.goto (-32), 3) := by decide +kernel
theorem dX11_findTables_101 : decode cX11_findTables 101 = .ok (.aload_n 0, 1) := by decide +kernel
theorem dX11_findTables_102 : decode cX11_findTables 102 = .ok (.getfield 178, 3) := by decide +kernel
theorem dX11_findTables_105 : decode cX11_findTables 105 = .ok (.sipush 256, 3) := by decide +kernel
theorem dX11_findTables_108 : decode cX11_findTables 108 = .ok (.iload_n 2, 1) := by decide +kernel
theorem dX11_findTables_109 : decode cX11_findTables 109 = .ok (.imul, 1) := by decide +kernel
theorem dX11_findTables_110 : decode cX11_findTables 110 = .ok (.iload 4, 2) := by decide +kernel
theorem dX11_findTables_112 : decode cX11_findTables 112 = .ok (.iadd, 1) := by decide +kernel
theorem dX11_findTables_113 : decode cX11_findTables 113 = .ok (.baload, 1) := by decide +kernel
theorem dX11_findTables_114 : decode cX11_findTables 114 = .ok (.ifCond .ne 38, 3) := by decide +kernel
theorem dX11_findTables_117 : decode cX11_findTables 117 = .ok (.aload_n 0, 1) := by decide +kernel
theorem dX11_findTables_118 : decode cX11_findTables 118 = .ok (.aload_n 0, 1) := by decide +kernel
theorem dX11_findTables_119 : decode cX11_findTables 119 = .ok (.getfield 162, 3) := by decide +kernel
theorem dX11_findTables_122 : decode cX11_findTables 122 = .ok (.iload_n 2, 1) := by decide +kernel
theorem dX11_findTables_123 : decode cX11_findTables 123 = .ok (.iaload, 1) := by decide +kernel
theorem dX11_findTables_124 : decode cX11_findTables 124 = .ok (.aload_n 0, 1) := by decide +kernel
theorem dX11_findTables_125 : decode cX11_findTables 125 = .ok (.getfield 165, 3) := by decide +kernel
theorem dX11_findTables_128 : decode cX11_findTables 128 = .ok (.iload_n 2, 1) := by decide +kernel
theorem dX11_findTables_129 : decode cX11_findTables 129 = .ok (.iaload, 1) := by decide +kernel
theorem dX11_findTables_130 : decode cX11_findTables 130 = .ok (.invokevirtual 564, 3) := by decide +kernel
theorem dX11_findTables_133 : decode cX11_findTables 133 = .ok (.ifCond .eq 19, 3) := by decide +kernel
theorem dX11_findTables_136 : decode cX11_findTables 136 = .ok (.aload_n 0, 1) := by decide +kernel
theorem dX11_findTables_137 : decode cX11_findTables 137 = .ok (.getfield 178, 3) := by decide +kernel
theorem dX11_findTables_140 : decode cX11_findTables 140 = .ok (.sipush 256, 3) := by decide +kernel
theorem dX11_findTables_143 : decode cX11_findTables 143 = .ok (.iload_n 2, 1) := by decide +kernel
theorem dX11_findTables_144 : decode cX11_findTables 144 = .ok (.imul, 1) := by decide +kernel
theorem dX11_findTables_145 : decode cX11_findTables 145 = .ok (.iload 4, 2) := by decide +kernel
theorem dX11_findTables_147 : decode cX11_findTables 147 = .ok (.iadd, 1) := by decide +kernel
theorem dX11_findTables_148 : decode cX11_findTables 148 = .ok (.iconst 1, 1) := by decide +kernel
theorem dX11_findTables_149 : decode cX11_findTables 149 = .ok (.bastore, 1) := by decide +kernel
theorem dX11_findTables_150 : decode cX11_findTables 150 = .ok (.iconst 1, 1) := by decide +kernel
theorem dX11_findTables_151 : decode cX11_findTables 151 = .ok (.istore_n 1, 1) := by decide +kernel
theorem dX11_findTables_152 : decode cX11_findTables 152 = .ok (.iinc 4 1, 3) := by decide +kernel
theorem dX11_findTables_155 : decode cX11_findTables 155 = .ok (.goto (-100), 3) := by decide +kernel
theorem dX11_findTables_158 : decode cX11_findTables 158 = .ok (.iinc 2 1, 3) := by decide +kernel
theorem dX11_findTables_161 : decode cX11_findTables 161 = .ok (.goto (-124), 3) := by decide +kernel
theorem dX11_findTables_164 : decode cX11_findTables 164 = .ok (.goto (-135), 3) := by decide +kernel
theorem dX11_findTables_167 : decode cX11_findTables 167 = .ok (.return_, 1) := by decide +kernel
theorem mw_X11_findTables : MW yX11_findTables (Cond.code yX11_findTables cX11_findTables 6 (Option.none : Option Jvm.ClassFile.FieldType)) cX11_findTables 6 (Option.none : Option Jvm.ClassFile.FieldType) 0 := ⟨rfl, ⟨(lw_all_tbl q3200), rfl, (lw_all_tbl q173)⟩, rfl, ⟨by decide, by decide⟩, by decide +kernel⟩
abbrev okt_findTables_2 (x : Int) : Prop := R32 x
abbrev lvt_findTables_2 (Γ : Gm) (x : Int) : List (Nat × Value) := [(0, vA (mg Γ) 21), (1, vI x)]
noncomputable def t_findTables_2b {A : Type} (k_27 : Mo TS A) (l1 : Int) : Mo TS ((Int) ⊕ A) :=
  bnd (gs 46) fun v1 =>
  if (w32 (256 * v1)) ≤ l1 then
    lo k_27
  else
    bnd (wr 85 163840 l1 0) fun _ =>
    pr (.inl (w32 (l1 + 1)))
theorem st_findTables_2b {Γ : Gm} {h : CH} {d : Nat} (hT : HT h) (o : Ok Γ "LazyForgeModel" cX11_findTables 6 (Option.none : Option Jvm.ClassFile.FieldType) (d + 4)) {A : Type} {K : A → TS → Prop} (k_27 : Mo TS A) (hk_27 : Sx Γ (fun t => (h, t)) K 27 [(0, vA (mg Γ) 21)] [] (k_27)) (l1 : Int) (hl1 : R32 l1) : Sx Γ (fun t => (h, t)) (KL Γ (fun t => (h, t)) okt_findTables_2 K 2 (lvt_findTables_2 Γ) []) 2 [(0, vA (mg Γ) 21), (1, vI l1)] [] (t_findTables_2b k_27 l1) := by
  unfold t_findTables_2b
  refine s_iload_n o dX11_findTables_2 rfl 1 rfl ?_
  refine s_sipush o dX11_findTables_3 rfl ?_
  refine s_aload_n o dX11_findTables_6 rfl 0 rfl ?_
  refine r_tgf vI rfl o hT tf_named tj_named (lw_all_tbl q2550) dX11_findTables_7 (fun v1 hv1 => ?_)
  refine s_imul o dX11_findTables_10 ?_
  refine s_icmp_ge (tgt := 27) o dX11_findTables_11 (by decide) hl1 (w32_R _) ?_ ?_
  · refine r_to [(0, vA (mg Γ) 21)] [0] rfl ?_
    exact s_lo hk_27
  · refine s_aload_n o dX11_findTables_14 rfl 0 rfl ?_
    refine s_tga (x := 77) o hT tf_tables ta_tables (lw_all_tbl q2589) dX11_findTables_15 ?_
    refine s_iload_n o dX11_findTables_18 rfl 1 rfl ?_
    refine s_iconst o dX11_findTables_19 ?_
    refine r_tzast o hT tr_tables hl1 (Or.inl rfl) dX11_findTables_20 ?_
    refine r_iinc (j := 1) o dX11_findTables_21 rfl rfl [(0, vA (mg Γ) 21)] [0] rfl ⟨(Nat.ne_of_beq_eq_false rfl), (fun _ => (vA_cat (mg Γ) 21)), trivial⟩ ?_
    refine s_goto (tgt := 2) o dX11_findTables_24 (by decide) ?_
    refine r_to [(0, vA (mg Γ) 21), (1, vI (w32 (l1 + 1)))] [1, 0] rfl ?_
    exact s_back (w32_R _) rfl
noncomputable def t_findTables_2 {A : Type} (k_27 : Mo TS A) (l1 : Int) : Mo TS A := Loop (fun x => t_findTables_2b k_27 x) l1
theorem st_findTables_2 {Γ : Gm} {h : CH} {d : Nat} (hT : HT h) (o : Ok Γ "LazyForgeModel" cX11_findTables 6 (Option.none : Option Jvm.ClassFile.FieldType) (d + 4)) {A : Type} {K : A → TS → Prop} (k_27 : Mo TS A) (hk_27 : Sx Γ (fun t => (h, t)) K 27 [(0, vA (mg Γ) 21)] [] (k_27)) (l1 : Int) (hl1 : R32 l1) : Sx Γ (fun t => (h, t)) K 2 [(0, vA (mg Γ) 21), (1, vI l1)] [] (t_findTables_2 k_27 l1) :=
  s_loop okt_findTables_2 (lvt_findTables_2 Γ) (fun x hx => st_findTables_2b hT o k_27 hk_27 x hx) (x := l1) hl1
abbrev okt_findTables_66 (x : Int × Int × Int × Int × Int) : Prop := rg .boolean x.1 ∧ R32 x.2.1 ∧ R32 x.2.2.1 ∧ R32 x.2.2.2.1 ∧ R32 x.2.2.2.2
abbrev lvt_findTables_66 (Γ : Gm) (x : Int × Int × Int × Int × Int) : List (Nat × Value) := [(0, vA (mg Γ) 21), (1, vI x.1), (2, vI x.2.1), (3, vI x.2.2.1), (4, vI x.2.2.2.1), (5, vI x.2.2.2.2)]
noncomputable def t_findTables_94 {A : Type} (k_101 : Int → Int → Int → Int → Mo TS A) (l1 : Int) (l2 : Int) (l3 : Int) (l4 : Int) (l5 : Int) (k0 : Int) (k1 : Int) : Mo TS ((Int × Int × Int × Int × Int) ⊕ A) :=
  bnd (wr 87 640 k1 k0) fun _ =>
  pr (.inl (l1, l2, l3, l4, (w32 (l5 + 1))))
theorem st_findTables_94 {Γ : Gm} {h : CH} {d : Nat} (hT : HT h) (o : Ok Γ "LazyForgeModel" cX11_findTables 6 (Option.none : Option Jvm.ClassFile.FieldType) (d + 4)) {A : Type} {K : A → TS → Prop}  (k_101 : Int → Int → Int → Int → Mo TS A) (hk_101 : ∀ (l1 : Int) (l2 : Int) (l3 : Int) (l4 : Int), rg .boolean l1 → R32 l2 → R32 l3 → R32 l4 → Sx Γ (fun t => (h, t)) K 101 [(0, vA (mg Γ) 21), (1, vI l1), (2, vI l2), (3, vI l3), (4, vI l4)] [] (k_101 l1 l2 l3 l4)) (l1 : Int) (l2 : Int) (l3 : Int) (l4 : Int) (l5 : Int) (k0 : Int) (k1 : Int) (hl1 : rg .boolean l1) (hl2 : R32 l2) (hl3 : R32 l3) (hl4 : R32 l4) (hl5 : R32 l5) (hk0 : rg .boolean k0) (hk1 : R32 k1) : Sx Γ (fun t => (h, t)) (KL Γ (fun t => (h, t)) okt_findTables_66 K 66 (lvt_findTables_66 Γ) []) 94 [(0, vA (mg Γ) 21), (1, vI l1), (2, vI l2), (3, vI l3), (4, vI l4), (5, vI l5)] [vI k0, vI k1, vA (mg Γ) 79] (t_findTables_94 k_101 l1 l2 l3 l4 l5 k0 k1) := by
  unfold t_findTables_94
  refine r_tzast o hT tr_has hk1 hk0 dX11_findTables_94 ?_
  refine r_iinc (j := 5) o dX11_findTables_95 rfl rfl [(0, vA (mg Γ) 21), (1, vI l1), (2, vI l2), (3, vI l3), (4, vI l4)] [0, 1, 2, 3, 4] rfl ⟨(Nat.ne_of_beq_eq_false rfl), (fun _ => (vA_cat (mg Γ) 21)), ⟨(Nat.ne_of_beq_eq_false rfl), (fun _ => rfl), ⟨(Nat.ne_of_beq_eq_false rfl), (fun _ => rfl), ⟨(Nat.ne_of_beq_eq_false rfl), (fun _ => rfl), ⟨(Nat.ne_of_beq_eq_false rfl), (fun _ => rfl), trivial⟩⟩⟩⟩⟩ ?_
  refine s_goto (tgt := 66) o dX11_findTables_98 (by decide) ?_
  refine r_to [(0, vA (mg Γ) 21), (1, vI l1), (2, vI l2), (3, vI l3), (4, vI l4), (5, vI (w32 (l5 + 1)))] [1, 2, 3, 4, 5, 0] rfl ?_
  exact s_back (⟨hl1, hl2, hl3, hl4, (w32_R _)⟩) rfl
noncomputable def t_findTables_66b {A : Type} (k_101 : Int → Int → Int → Int → Mo TS A) (l1 : Int) (l2 : Int) (l3 : Int) (l4 : Int) (l5 : Int) : Mo TS ((Int × Int × Int × Int × Int) ⊕ A) :=
  if l3 ≤ l5 then
    lo (k_101 l1 l2 l3 l4)
  else
    if ¬ (iand (ishr l4 l5) 1) = 1 then
      t_findTables_94 k_101 l1 l2 l3 l4 l5 0 l5
    else
      t_findTables_94 k_101 l1 l2 l3 l4 l5 1 l5
theorem st_findTables_66b {Γ : Gm} {h : CH} {d : Nat} (hT : HT h) (o : Ok Γ "LazyForgeModel" cX11_findTables 6 (Option.none : Option Jvm.ClassFile.FieldType) (d + 4)) {A : Type} {K : A → TS → Prop} (k_101 : Int → Int → Int → Int → Mo TS A) (hk_101 : ∀ (l1 : Int) (l2 : Int) (l3 : Int) (l4 : Int), rg .boolean l1 → R32 l2 → R32 l3 → R32 l4 → Sx Γ (fun t => (h, t)) K 101 [(0, vA (mg Γ) 21), (1, vI l1), (2, vI l2), (3, vI l3), (4, vI l4)] [] (k_101 l1 l2 l3 l4)) (l1 : Int) (l2 : Int) (l3 : Int) (l4 : Int) (l5 : Int) (hl1 : rg .boolean l1) (hl2 : R32 l2) (hl3 : R32 l3) (hl4 : R32 l4) (hl5 : R32 l5) : Sx Γ (fun t => (h, t)) (KL Γ (fun t => (h, t)) okt_findTables_66 K 66 (lvt_findTables_66 Γ) []) 66 [(0, vA (mg Γ) 21), (1, vI l1), (2, vI l2), (3, vI l3), (4, vI l4), (5, vI l5)] [] (t_findTables_66b k_101 l1 l2 l3 l4 l5) := by
  unfold t_findTables_66b
  refine s_iload o dX11_findTables_66 5 rfl ?_
  refine s_iload_n o dX11_findTables_68 rfl 3 rfl ?_
  refine s_icmp_ge (tgt := 101) o dX11_findTables_69 (by decide) hl5 hl3 ?_ ?_
  · refine r_to [(0, vA (mg Γ) 21), (1, vI l1), (2, vI l2), (3, vI l3), (4, vI l4)] [0, 1, 2, 3, 4] rfl ?_
    exact s_lo (hk_101 l1 l2 l3 l4 hl1 hl2 hl3 hl4)
  · refine s_aload_n o dX11_findTables_72 rfl 0 rfl ?_
    refine s_tga (x := 79) o hT tf_has ta_has (lw_all_tbl q2591) dX11_findTables_73 ?_
    refine s_iload o dX11_findTables_76 5 rfl ?_
    refine s_iload o dX11_findTables_78 4 rfl ?_
    refine s_iload o dX11_findTables_80 5 rfl ?_
    refine s_ishr o dX11_findTables_82 ?_
    refine s_iconst o dX11_findTables_83 ?_
    refine s_iand o dX11_findTables_84 ?_
    refine s_iconst o dX11_findTables_85 ?_
    refine s_icmp_ne (tgt := 93) o dX11_findTables_86 (by decide) (iand_R _ _) (r32 rfl) ?_ ?_
    · refine s_iconst o dX11_findTables_93 ?_
      exact st_findTables_94 hT o k_101 hk_101 l1 l2 l3 l4 l5 0 l5 hl1 hl2 hl3 hl4 hl5 (Or.inl rfl) hl5
    · refine s_iconst o dX11_findTables_89 ?_
      refine s_goto (tgt := 94) o dX11_findTables_90 (by decide) ?_
      exact st_findTables_94 hT o k_101 hk_101 l1 l2 l3 l4 l5 1 l5 hl1 hl2 hl3 hl4 hl5 (Or.inr rfl) hl5
noncomputable def t_findTables_66 {A : Type} (k_101 : Int → Int → Int → Int → Mo TS A) (l1 : Int) (l2 : Int) (l3 : Int) (l4 : Int) (l5 : Int) : Mo TS A := Loop (fun x => t_findTables_66b k_101 x.1 x.2.1 x.2.2.1 x.2.2.2.1 x.2.2.2.2) (l1, l2, l3, l4, l5)
theorem st_findTables_66 {Γ : Gm} {h : CH} {d : Nat} (hT : HT h) (o : Ok Γ "LazyForgeModel" cX11_findTables 6 (Option.none : Option Jvm.ClassFile.FieldType) (d + 4)) {A : Type} {K : A → TS → Prop} (k_101 : Int → Int → Int → Int → Mo TS A) (hk_101 : ∀ (l1 : Int) (l2 : Int) (l3 : Int) (l4 : Int), rg .boolean l1 → R32 l2 → R32 l3 → R32 l4 → Sx Γ (fun t => (h, t)) K 101 [(0, vA (mg Γ) 21), (1, vI l1), (2, vI l2), (3, vI l3), (4, vI l4)] [] (k_101 l1 l2 l3 l4)) (l1 : Int) (l2 : Int) (l3 : Int) (l4 : Int) (l5 : Int) (hl1 : rg .boolean l1) (hl2 : R32 l2) (hl3 : R32 l3) (hl4 : R32 l4) (hl5 : R32 l5) : Sx Γ (fun t => (h, t)) K 66 [(0, vA (mg Γ) 21), (1, vI l1), (2, vI l2), (3, vI l3), (4, vI l4), (5, vI l5)] [] (t_findTables_66 k_101 l1 l2 l3 l4 l5) :=
  s_loop okt_findTables_66 (lvt_findTables_66 Γ) (fun x hx => st_findTables_66b hT o k_101 hk_101 x.1 x.2.1 x.2.2.1 x.2.2.2.1 x.2.2.2.2 hx.1 hx.2.1 hx.2.2.1 hx.2.2.2.1 hx.2.2.2.2) (x := (l1, l2, l3, l4, l5)) ⟨hl1, hl2, hl3, hl4, hl5⟩
abbrev okt_findTables_55 (x : Int × Int × Int × Int) : Prop := rg .boolean x.1 ∧ R32 x.2.1 ∧ R32 x.2.2.1 ∧ R32 x.2.2.2
abbrev lvt_findTables_55 (Γ : Gm) (x : Int × Int × Int × Int) : List (Nat × Value) := [(0, vA (mg Γ) 21), (1, vI x.1), (2, vI x.2.1), (3, vI x.2.2.1), (4, vI x.2.2.2)]
noncomputable def t_findTables_152 {A : Type} (k_158 : Int → Int → Mo TS A) (l1 : Int) (l2 : Int) (l3 : Int) (l4 : Int) : Mo TS ((Int × Int × Int × Int) ⊕ A) :=
  pr (.inl (l1, l2, l3, (w32 (l4 + 1))))
theorem st_findTables_152 {Γ : Gm} {h : CH} {d : Nat} (hT : HT h) (o : Ok Γ "LazyForgeModel" cX11_findTables 6 (Option.none : Option Jvm.ClassFile.FieldType) (d + 4)) {A : Type} {K : A → TS → Prop}  (k_158 : Int → Int → Mo TS A) (hk_158 : ∀ (l1 : Int) (l2 : Int), rg .boolean l1 → R32 l2 → Sx Γ (fun t => (h, t)) K 158 [(0, vA (mg Γ) 21), (1, vI l1), (2, vI l2)] [] (k_158 l1 l2)) (l1 : Int) (l2 : Int) (l3 : Int) (l4 : Int) (hl1 : rg .boolean l1) (hl2 : R32 l2) (hl3 : R32 l3) (hl4 : R32 l4) : Sx Γ (fun t => (h, t)) (KL Γ (fun t => (h, t)) okt_findTables_55 K 55 (lvt_findTables_55 Γ) []) 152 [(0, vA (mg Γ) 21), (1, vI l1), (2, vI l2), (3, vI l3), (4, vI l4)] [] (t_findTables_152 k_158 l1 l2 l3 l4) := by
  unfold t_findTables_152
  refine r_iinc (j := 4) o dX11_findTables_152 rfl rfl [(0, vA (mg Γ) 21), (1, vI l1), (2, vI l2), (3, vI l3)] [0, 1, 2, 3] rfl ⟨(Nat.ne_of_beq_eq_false rfl), (fun _ => (vA_cat (mg Γ) 21)), ⟨(Nat.ne_of_beq_eq_false rfl), (fun _ => rfl), ⟨(Nat.ne_of_beq_eq_false rfl), (fun _ => rfl), ⟨(Nat.ne_of_beq_eq_false rfl), (fun _ => rfl), trivial⟩⟩⟩⟩ ?_
  refine s_goto (tgt := 55) o dX11_findTables_155 (by decide) ?_
  refine r_to [(0, vA (mg Γ) 21), (1, vI l1), (2, vI l2), (3, vI l3), (4, vI (w32 (l4 + 1)))] [1, 2, 3, 4, 0] rfl ?_
  exact s_back (⟨hl1, hl2, hl3, (w32_R _)⟩) rfl
noncomputable def t_findTables_55b {A : Type} (k_158 : Int → Int → Mo TS A) (l1 : Int) (l2 : Int) (l3 : Int) (l4 : Int) : Mo TS ((Int × Int × Int × Int) ⊕ A) :=
  if (ishl 1 l3) ≤ l4 then
    lo (k_158 l1 l2)
  else
    t_findTables_66
      (fun v1 v2 v3 v4 => bnd (rd 85 163840 (w32 ((w32 (256 * v2)) + v4))) fun v5 =>
    if ¬ v5 = 0 then
      t_findTables_152 k_158 v1 v2 v3 v4
    else
      bnd (rd 79 640 v2) fun v6 =>
      bnd (rd 80 640 v2) fun v7 =>
      bnd (t_bitOfPart v6 v7) fun v8 =>
      if v8 = 0 then
        t_findTables_152 k_158 v1 v2 v3 v4
      else
        bnd (wr 85 163840 (w32 ((w32 (256 * v2)) + v4)) 1) fun _ =>
        t_findTables_152 k_158 1 v2 v3 v4) l1 l2 l3 l4 0
theorem st_findTables_55b {Γ : Gm} {h : CH} {d : Nat} (hT : HT h) (o : Ok Γ "LazyForgeModel" cX11_findTables 6 (Option.none : Option Jvm.ClassFile.FieldType) (d + 4)) {A : Type} {K : A → TS → Prop} (k_158 : Int → Int → Mo TS A) (hk_158 : ∀ (l1 : Int) (l2 : Int), rg .boolean l1 → R32 l2 → Sx Γ (fun t => (h, t)) K 158 [(0, vA (mg Γ) 21), (1, vI l1), (2, vI l2)] [] (k_158 l1 l2)) (l1 : Int) (l2 : Int) (l3 : Int) (l4 : Int) (hl1 : rg .boolean l1) (hl2 : R32 l2) (hl3 : R32 l3) (hl4 : R32 l4) : Sx Γ (fun t => (h, t)) (KL Γ (fun t => (h, t)) okt_findTables_55 K 55 (lvt_findTables_55 Γ) []) 55 [(0, vA (mg Γ) 21), (1, vI l1), (2, vI l2), (3, vI l3), (4, vI l4)] [] (t_findTables_55b k_158 l1 l2 l3 l4) := by
  unfold t_findTables_55b
  refine s_iload o dX11_findTables_55 4 rfl ?_
  refine s_iconst o dX11_findTables_57 ?_
  refine s_iload_n o dX11_findTables_58 rfl 3 rfl ?_
  refine s_ishl o dX11_findTables_59 ?_
  refine s_icmp_ge (tgt := 158) o dX11_findTables_60 (by decide) hl4 (ishl_R _ _) ?_ ?_
  · refine r_to [(0, vA (mg Γ) 21), (1, vI l1), (2, vI l2)] [0, 1, 2] rfl ?_
    exact s_lo (hk_158 l1 l2 hl1 hl2)
  · refine s_iconst o dX11_findTables_63 ?_
    refine r_istore o dX11_findTables_64 rfl ⟨(Nat.ne_of_beq_eq_false rfl), (fun _ => (vA_cat (mg Γ) 21)), ⟨(Nat.ne_of_beq_eq_false rfl), (fun _ => rfl), ⟨(Nat.ne_of_beq_eq_false rfl), (fun _ => rfl), ⟨(Nat.ne_of_beq_eq_false rfl), (fun _ => rfl), ⟨(Nat.ne_of_beq_eq_false rfl), (fun _ => rfl), trivial⟩⟩⟩⟩⟩ ?_
    refine r_to [(0, vA (mg Γ) 21), (1, vI l1), (2, vI l2), (3, vI l3), (4, vI l4), (5, vI 0)] [1, 2, 3, 4, 5, 0] rfl ?_
    refine st_findTables_66 hT o _ ?_ l1 l2 l3 l4 0 hl1 hl2 hl3 hl4 (r32 rfl)
    · intro v1 v2 v3 v4 hv1 hv2 hv3 hv4
      refine s_aload_n o dX11_findTables_101 rfl 0 rfl ?_
      refine s_tga (x := 77) o hT tf_tables ta_tables (lw_all_tbl q2589) dX11_findTables_102 ?_
      refine s_sipush o dX11_findTables_105 rfl ?_
      refine s_iload_n o dX11_findTables_108 rfl 2 rfl ?_
      refine s_imul o dX11_findTables_109 ?_
      refine s_iload o dX11_findTables_110 4 rfl ?_
      refine s_iadd o dX11_findTables_112 ?_
      refine r_tzald o hT tr_tables (w32_R _) dX11_findTables_113 (fun v5 hv5 => ?_)
      refine s_if_ne (tgt := 152) o dX11_findTables_114 (by decide) (rZ hv5) ?_ ?_
      · exact st_findTables_152 hT o k_158 hk_158 v1 v2 v3 v4 hv1 hv2 hv3 hv4
      · refine s_aload_n o dX11_findTables_117 rfl 0 rfl ?_
        refine s_aload_n o dX11_findTables_118 rfl 0 rfl ?_
        refine s_tga (x := 72) o hT tf_begins ta_begins (lw_all_tbl q2583) dX11_findTables_119 ?_
        refine s_iload_n o dX11_findTables_122 rfl 2 rfl ?_
        refine r_tiald o hT tr_begins hv2 dX11_findTables_123 (fun v6 hv6 => ?_)
        refine s_aload_n o dX11_findTables_124 rfl 0 rfl ?_
        refine s_tga (x := 73) o hT tf_roots ta_roots (lw_all_tbl q2584) dX11_findTables_125 ?_
        refine s_iload_n o dX11_findTables_128 rfl 2 rfl ?_
        refine r_tiald o hT tr_roots hv2 dX11_findTables_129 (fun v7 hv7 => ?_)
        refine s_cv (d := d + 3) (C := "LazyForgeModel") (As := [vI v6, vI v7]) (st := []) o (st_bitOfPart (mg Γ) d h hT v6 v7 hv6 hv7) mw_X11_bitOfPart rfl (Or.inl (lw_all_tbl q3201)) (lw_all_tbl qs118) (lw_all_tbl q3203) (fun t => rc_t o hT t) wt_0 rfl dX11_findTables_130 rfl (rs := fun r => [vI r]) (fun _ => rfl) (fun v8 hv8 => ?_)
        refine s_if_eq (tgt := 152) o dX11_findTables_133 (by decide) (rZ (hv8 _ rfl)) ?_ ?_
        · exact st_findTables_152 hT o k_158 hk_158 v1 v2 v3 v4 hv1 hv2 hv3 hv4
        · refine s_aload_n o dX11_findTables_136 rfl 0 rfl ?_
          refine s_tga (x := 77) o hT tf_tables ta_tables (lw_all_tbl q2589) dX11_findTables_137 ?_
          refine s_sipush o dX11_findTables_140 rfl ?_
          refine s_iload_n o dX11_findTables_143 rfl 2 rfl ?_
          refine s_imul o dX11_findTables_144 ?_
          refine s_iload o dX11_findTables_145 4 rfl ?_
          refine s_iadd o dX11_findTables_147 ?_
          refine s_iconst o dX11_findTables_148 ?_
          refine r_tzast o hT tr_tables (w32_R _) (Or.inr rfl) dX11_findTables_149 ?_
          refine s_iconst o dX11_findTables_150 ?_
          refine r_istore_nP o dX11_findTables_151 rfl rfl [(0, vA (mg Γ) 21), (2, vI v2), (3, vI v3), (4, vI v4)] [0, 2, 3, 4] rfl ⟨(Nat.ne_of_beq_eq_false rfl), (fun _ => (vA_cat (mg Γ) 21)), ⟨(Nat.ne_of_beq_eq_false rfl), (fun _ => rfl), ⟨(Nat.ne_of_beq_eq_false rfl), (fun _ => rfl), ⟨(Nat.ne_of_beq_eq_false rfl), (fun _ => rfl), trivial⟩⟩⟩⟩ ?_
          refine r_to [(0, vA (mg Γ) 21), (1, vI 1), (2, vI v2), (3, vI v3), (4, vI v4)] [1, 0, 2, 3, 4] rfl ?_
          exact st_findTables_152 hT o k_158 hk_158 1 v2 v3 v4 (Or.inr rfl) hv2 hv3 hv4
noncomputable def t_findTables_55 {A : Type} (k_158 : Int → Int → Mo TS A) (l1 : Int) (l2 : Int) (l3 : Int) (l4 : Int) : Mo TS A := Loop (fun x => t_findTables_55b k_158 x.1 x.2.1 x.2.2.1 x.2.2.2) (l1, l2, l3, l4)
theorem st_findTables_55 {Γ : Gm} {h : CH} {d : Nat} (hT : HT h) (o : Ok Γ "LazyForgeModel" cX11_findTables 6 (Option.none : Option Jvm.ClassFile.FieldType) (d + 4)) {A : Type} {K : A → TS → Prop} (k_158 : Int → Int → Mo TS A) (hk_158 : ∀ (l1 : Int) (l2 : Int), rg .boolean l1 → R32 l2 → Sx Γ (fun t => (h, t)) K 158 [(0, vA (mg Γ) 21), (1, vI l1), (2, vI l2)] [] (k_158 l1 l2)) (l1 : Int) (l2 : Int) (l3 : Int) (l4 : Int) (hl1 : rg .boolean l1) (hl2 : R32 l2) (hl3 : R32 l3) (hl4 : R32 l4) : Sx Γ (fun t => (h, t)) K 55 [(0, vA (mg Γ) 21), (1, vI l1), (2, vI l2), (3, vI l3), (4, vI l4)] [] (t_findTables_55 k_158 l1 l2 l3 l4) :=
  s_loop okt_findTables_55 (lvt_findTables_55 Γ) (fun x hx => st_findTables_55b hT o k_158 hk_158 x.1 x.2.1 x.2.2.1 x.2.2.2 hx.1 hx.2.1 hx.2.2.1 hx.2.2.2) (x := (l1, l2, l3, l4)) ⟨hl1, hl2, hl3, hl4⟩
abbrev okt_findTables_37 (x : Int × Int) : Prop := rg .boolean x.1 ∧ R32 x.2
abbrev lvt_findTables_37 (Γ : Gm) (x : Int × Int) : List (Nat × Value) := [(0, vA (mg Γ) 21), (1, vI x.1), (2, vI x.2)]
noncomputable def t_findTables_37b {A : Type} (k_164 : Int → Mo TS A) (l1 : Int) (l2 : Int) : Mo TS ((Int × Int) ⊕ A) :=
  bnd (gs 46) fun v1 =>
  if v1 ≤ l2 then
    lo (k_164 l1)
  else
    bnd (rd 82 640 l2) fun v2 =>
    t_findTables_55
      (fun v3 v4 => pr (.inl (v3, (w32 (v4 + 1))))) l1 l2 v2 0
theorem st_findTables_37b {Γ : Gm} {h : CH} {d : Nat} (hT : HT h) (o : Ok Γ "LazyForgeModel" cX11_findTables 6 (Option.none : Option Jvm.ClassFile.FieldType) (d + 4)) {A : Type} {K : A → TS → Prop} (k_164 : Int → Mo TS A) (hk_164 : ∀ (l1 : Int), rg .boolean l1 → Sx Γ (fun t => (h, t)) K 164 [(0, vA (mg Γ) 21), (1, vI l1)] [] (k_164 l1)) (l1 : Int) (l2 : Int) (hl1 : rg .boolean l1) (hl2 : R32 l2) : Sx Γ (fun t => (h, t)) (KL Γ (fun t => (h, t)) okt_findTables_37 K 37 (lvt_findTables_37 Γ) []) 37 [(0, vA (mg Γ) 21), (1, vI l1), (2, vI l2)] [] (t_findTables_37b k_164 l1 l2) := by
  unfold t_findTables_37b
  refine s_iload_n o dX11_findTables_37 rfl 2 rfl ?_
  refine s_aload_n o dX11_findTables_38 rfl 0 rfl ?_
  refine r_tgf vI rfl o hT tf_named tj_named (lw_all_tbl q2550) dX11_findTables_39 (fun v1 hv1 => ?_)
  refine s_icmp_ge (tgt := 164) o dX11_findTables_42 (by decide) hl2 hv1 ?_ ?_
  · refine r_to [(0, vA (mg Γ) 21), (1, vI l1)] [0, 1] rfl ?_
    exact s_lo (hk_164 l1 hl1)
  · refine s_aload_n o dX11_findTables_45 rfl 0 rfl ?_
    refine s_tga (x := 75) o hT tf_parameterCounts ta_parameterCounts (lw_all_tbl q2586) dX11_findTables_46 ?_
    refine s_iload_n o dX11_findTables_49 rfl 2 rfl ?_
    refine r_tiald o hT tr_parameterCounts hl2 dX11_findTables_50 (fun v2 hv2 => ?_)
    refine r_istore_n o dX11_findTables_51 rfl rfl ⟨(Nat.ne_of_beq_eq_false rfl), (fun _ => (vA_cat (mg Γ) 21)), ⟨(Nat.ne_of_beq_eq_false rfl), (fun _ => rfl), ⟨(Nat.ne_of_beq_eq_false rfl), (fun _ => rfl), trivial⟩⟩⟩ ?_
    refine s_iconst o dX11_findTables_52 ?_
    refine r_istore o dX11_findTables_53 rfl ⟨(Nat.ne_of_beq_eq_false rfl), (fun _ => rfl), ⟨(Nat.ne_of_beq_eq_false rfl), (fun _ => (vA_cat (mg Γ) 21)), ⟨(Nat.ne_of_beq_eq_false rfl), (fun _ => rfl), ⟨(Nat.ne_of_beq_eq_false rfl), (fun _ => rfl), trivial⟩⟩⟩⟩ ?_
    refine r_to [(0, vA (mg Γ) 21), (1, vI l1), (2, vI l2), (3, vI v2), (4, vI 0)] [2, 3, 4, 1, 0] rfl ?_
    refine st_findTables_55 hT o _ ?_ l1 l2 v2 0 hl1 hl2 hv2 (r32 rfl)
    · intro v3 v4 hv3 hv4
      refine r_iinc (j := 2) o dX11_findTables_158 rfl rfl [(0, vA (mg Γ) 21), (1, vI v3)] [0, 1] rfl ⟨(Nat.ne_of_beq_eq_false rfl), (fun _ => (vA_cat (mg Γ) 21)), ⟨(Nat.ne_of_beq_eq_false rfl), (fun _ => rfl), trivial⟩⟩ ?_
      refine s_goto (tgt := 37) o dX11_findTables_161 (by decide) ?_
      refine r_to [(0, vA (mg Γ) 21), (1, vI v3), (2, vI (w32 (v4 + 1)))] [1, 2, 0] rfl ?_
      exact s_back (⟨hv3, (w32_R _)⟩) rfl
noncomputable def t_findTables_37 {A : Type} (k_164 : Int → Mo TS A) (l1 : Int) (l2 : Int) : Mo TS A := Loop (fun x => t_findTables_37b k_164 x.1 x.2) (l1, l2)
theorem st_findTables_37 {Γ : Gm} {h : CH} {d : Nat} (hT : HT h) (o : Ok Γ "LazyForgeModel" cX11_findTables 6 (Option.none : Option Jvm.ClassFile.FieldType) (d + 4)) {A : Type} {K : A → TS → Prop} (k_164 : Int → Mo TS A) (hk_164 : ∀ (l1 : Int), rg .boolean l1 → Sx Γ (fun t => (h, t)) K 164 [(0, vA (mg Γ) 21), (1, vI l1)] [] (k_164 l1)) (l1 : Int) (l2 : Int) (hl1 : rg .boolean l1) (hl2 : R32 l2) : Sx Γ (fun t => (h, t)) K 37 [(0, vA (mg Γ) 21), (1, vI l1), (2, vI l2)] [] (t_findTables_37 k_164 l1 l2) :=
  s_loop okt_findTables_37 (lvt_findTables_37 Γ) (fun x hx => st_findTables_37b hT o k_164 hk_164 x.1 x.2 hx.1 hx.2) (x := (l1, l2)) ⟨hl1, hl2⟩
abbrev okt_findTables_29 (x : Int) : Prop := rg .boolean x
abbrev lvt_findTables_29 (Γ : Gm) (x : Int) : List (Nat × Value) := [(0, vA (mg Γ) 21), (1, vI x)]
noncomputable def t_findTables_29b {A : Type} (k_167 : Mo TS A) (l1 : Int) : Mo TS ((Int) ⊕ A) :=
  if l1 = 0 then
    lo k_167
  else
    t_findTables_37
      (fun v1 => pr (.inl v1)) 0 0
theorem st_findTables_29b {Γ : Gm} {h : CH} {d : Nat} (hT : HT h) (o : Ok Γ "LazyForgeModel" cX11_findTables 6 (Option.none : Option Jvm.ClassFile.FieldType) (d + 4)) {A : Type} {K : A → TS → Prop} (k_167 : Mo TS A) (hk_167 : Sx Γ (fun t => (h, t)) K 167 [] [] (k_167)) (l1 : Int) (hl1 : rg .boolean l1) : Sx Γ (fun t => (h, t)) (KL Γ (fun t => (h, t)) okt_findTables_29 K 29 (lvt_findTables_29 Γ) []) 29 [(0, vA (mg Γ) 21), (1, vI l1)] [] (t_findTables_29b k_167 l1) := by
  unfold t_findTables_29b
  refine s_iload_n o dX11_findTables_29 rfl 1 rfl ?_
  refine s_if_eq (tgt := 167) o dX11_findTables_30 (by decide) (rZ hl1) ?_ ?_
  · refine r_to [] [] rfl ?_
    exact s_lo hk_167
  · refine s_iconst o dX11_findTables_33 ?_
    refine r_istore_nP o dX11_findTables_34 rfl rfl [(0, vA (mg Γ) 21)] [0] rfl ⟨(Nat.ne_of_beq_eq_false rfl), (fun _ => (vA_cat (mg Γ) 21)), trivial⟩ ?_
    refine s_iconst o dX11_findTables_35 ?_
    refine r_istore_n o dX11_findTables_36 rfl rfl ⟨(Nat.ne_of_beq_eq_false rfl), (fun _ => rfl), ⟨(Nat.ne_of_beq_eq_false rfl), (fun _ => (vA_cat (mg Γ) 21)), trivial⟩⟩ ?_
    refine r_to [(0, vA (mg Γ) 21), (1, vI 0), (2, vI 0)] [2, 1, 0] rfl ?_
    refine st_findTables_37 hT o _ ?_ 0 0 (Or.inl rfl) (r32 rfl)
    · intro v1 hv1
      refine s_goto (tgt := 29) o dX11_findTables_164 (by decide) ?_
      exact s_back hv1 rfl
noncomputable def t_findTables_29 {A : Type} (k_167 : Mo TS A) (l1 : Int) : Mo TS A := Loop (fun x => t_findTables_29b k_167 x) l1
theorem st_findTables_29 {Γ : Gm} {h : CH} {d : Nat} (hT : HT h) (o : Ok Γ "LazyForgeModel" cX11_findTables 6 (Option.none : Option Jvm.ClassFile.FieldType) (d + 4)) {A : Type} {K : A → TS → Prop} (k_167 : Mo TS A) (hk_167 : Sx Γ (fun t => (h, t)) K 167 [] [] (k_167)) (l1 : Int) (hl1 : rg .boolean l1) : Sx Γ (fun t => (h, t)) K 29 [(0, vA (mg Γ) 21), (1, vI l1)] [] (t_findTables_29 k_167 l1) :=
  s_loop okt_findTables_29 (lvt_findTables_29 Γ) (fun x hx => st_findTables_29b hT o k_167 hk_167 x hx) (x := l1) hl1
noncomputable def t_findTables : Mo TS Int :=
  t_findTables_2
    (t_findTables_29
    (pr 0) 1) 0
theorem st_findTables (g : gC) (d : Nat) (h : CH) (hT : HT h) : SF g yX11_findTables (Cond.code yX11_findTables cX11_findTables 6 (Option.none : Option Jvm.ClassFile.FieldType)) (Option.none : Option Jvm.ClassFile.FieldType) (d + 4) [vA g 21] (fun t => (h, t)) (t_findTables) := by
  refine SF.of (lv := [(0, vA g 21)]) (by decide) (wt_A wt_0) rfl (by simp only [la_A, la_I, la_J, la_0]) (fun Γ hg hnm o => ?_)
  subst hg
  have o : Ok Γ "LazyForgeModel" cX11_findTables 6 (Option.none : Option Jvm.ClassFile.FieldType) (d + 4) := o
  unfold t_findTables
  refine s_iconst o dX11_findTables_0 ?_
  refine r_istore_n o dX11_findTables_1 rfl rfl ⟨(Nat.ne_of_beq_eq_false rfl), (fun _ => (vA_cat (mg Γ) 21)), trivial⟩ ?_
  refine r_to [(0, vA (mg Γ) 21), (1, vI 0)] [1, 0] rfl ?_
  refine st_findTables_2 hT o _ ?_ 0 (r32 rfl)
  · refine s_iconst o dX11_findTables_27 ?_
    refine r_istore_n o dX11_findTables_28 rfl rfl ⟨(Nat.ne_of_beq_eq_false rfl), (fun _ => (vA_cat (mg Γ) 21)), trivial⟩ ?_
    refine r_to [(0, vA (mg Γ) 21), (1, vI 1)] [1, 0] rfl ?_
    refine st_findTables_29 hT o _ ?_ 1 (Or.inr rfl)
    · exact s_vret o rfl dX11_findTables_167 (fun _ hh => hh)
theorem dX11_findNeeds_0 : decode cX11_findNeeds 0 = .ok (.iconst 0, 1) := by decide +kernel
theorem dX11_findNeeds_1 : decode cX11_findNeeds 1 = .ok (.istore_n 1, 1) := by decide +kernel
theorem dX11_findNeeds_2 : decode cX11_findNeeds 2 = .ok (.iload_n 1, 1) := by decide +kernel
theorem dX11_findNeeds_3 : decode cX11_findNeeds 3 = .ok (.aload_n 0, 1) := by decide +kernel
theorem dX11_findNeeds_4 : decode cX11_findNeeds 4 = .ok (.getfield 520, 3) := by decide +kernel
theorem dX11_findNeeds_7 : decode cX11_findNeeds 7 = .ok (.if_icmp .ge 120, 3) := by decide +kernel
theorem dX11_findNeeds_10 : decode cX11_findNeeds 10 = .ok (.aload_n 0, 1) := by decide +kernel
theorem dX11_findNeeds_11 : decode cX11_findNeeds 11 = .ok (.getfield 119, 3) := by decide +kernel
theorem dX11_findNeeds_14 : decode cX11_findNeeds 14 = .ok (.iload_n 1, 1) := by decide +kernel
theorem dX11_findNeeds_15 : decode cX11_findNeeds 15 = .ok (.iaload, 1) := by decide +kernel
theorem dX11_findNeeds_16 : decode cX11_findNeeds 16 = .ok (.ifCond .ne 105, 3) := by decide +kernel
theorem dX11_findNeeds_19 : decode cX11_findNeeds 19 = .ok (.aload_n 0, 1) := by decide +kernel
theorem dX11_findNeeds_20 : decode cX11_findNeeds 20 = .ok (.getfield 122, 3) := by decide +kernel
theorem dX11_findNeeds_23 : decode cX11_findNeeds 23 = .ok (.iload_n 1, 1) := by decide +kernel
theorem dX11_findNeeds_24 : decode cX11_findNeeds 24 = .ok (.iaload, 1) := by decide +kernel
theorem dX11_findNeeds_25 : decode cX11_findNeeds 25 = .ok (.iconst 1, 1) := by decide +kernel
theorem dX11_findNeeds_26 : decode cX11_findNeeds 26 = .ok (.if_icmp .ne 95, 3) := by decide +kernel
theorem dX11_findNeeds_29 : decode cX11_findNeeds 29 = .ok (.aload_n 0, 1) := by decide +kernel
theorem dX11_findNeeds_30 : decode cX11_findNeeds 30 = .ok (.getfield 131, 3) := by decide +kernel
theorem dX11_findNeeds_33 : decode cX11_findNeeds 33 = .ok (.iload_n 1, 1) := by decide +kernel
theorem dX11_findNeeds_34 : decode cX11_findNeeds 34 = .ok (.iaload, 1) := by decide +kernel
theorem dX11_findNeeds_35 : decode cX11_findNeeds 35 = .ok (.istore_n 2, 1) := by decide +kernel
theorem dX11_findNeeds_36 : decode cX11_findNeeds 36 = .ok (.aload_n 0, 1) := by decide +kernel
theorem dX11_findNeeds_37 : decode cX11_findNeeds 37 = .ok (.iload_n 1, 1) := by decide +kernel
theorem dX11_findNeeds_38 : decode cX11_findNeeds 38 = .ok (.iconst 1, 1) := by decide +kernel
theorem dX11_findNeeds_39 : decode cX11_findNeeds 39 = .ok (.invokevirtual 545, 3) := by decide +kernel
theorem dX11_findNeeds_42 : decode cX11_findNeeds 42 = .ok (.istore_n 3, 1) := by decide +kernel
theorem dX11_findNeeds_43 : decode cX11_findNeeds 43 = .ok (.aload_n 0, 1) := by decide +kernel
theorem dX11_findNeeds_44 : decode cX11_findNeeds 44 = .ok (.getfield 144, 3) := by decide +kernel
theorem dX11_findNeeds_47 : decode cX11_findNeeds 47 = .ok (.aload_n 0, 1) := by decide +kernel
theorem dX11_findNeeds_48 : decode cX11_findNeeds 48 = .ok (.iload_n 1, 1) := by decide +kernel
theorem dX11_findNeeds_49 : decode cX11_findNeeds 49 = .ok (.iconst 0, 1) := by decide +kernel
theorem dX11_findNeeds_50 : decode cX11_findNeeds 50 = .ok (.invokevirtual 545, 3) := by decide +kernel
theorem dX11_findNeeds_53 : decode cX11_findNeeds 53 = .ok (.laload, 1) := by decide +kernel
theorem dX11_findNeeds_54 : decode cX11_findNeeds 54 = .ok (.iload_n 2, 1) := by decide +kernel
theorem dX11_findNeeds_55 : decode cX11_findNeeds 55 = .ok (.lshr, 1) := by decide +kernel
theorem dX11_findNeeds_56 : decode cX11_findNeeds 56 = .ok (.lconst 1, 1) := by decide +kernel
theorem dX11_findNeeds_57 : decode cX11_findNeeds 57 = .ok (.land, 1) := by decide +kernel
theorem dX11_findNeeds_58 : decode cX11_findNeeds 58 = .ok (.lconst 0, 1) := by decide +kernel
theorem dX11_findNeeds_59 : decode cX11_findNeeds 59 = .ok (.lcmp, 1) := by decide +kernel
theorem dX11_findNeeds_60 : decode cX11_findNeeds 60 = .ok (.ifCond .ne 61, 3) := by decide +kernel
theorem dX11_findNeeds_63 : decode cX11_findNeeds 63 = .ok (.iconst 0, 1) := by decide +kernel
theorem dX11_findNeeds_64 : decode cX11_findNeeds 64 = .ok (.istore 4, 2) := by decide +kernel
theorem dX11_findNeeds_66 : decode cX11_findNeeds 66 = .ok (.iload 4, 2) := by decide +kernel
theorem dX11_findNeeds_68 : decode cX11_findNeeds 68 = .ok (.bipush 64, 2) := by decide +kernel
theorem dX11_findNeeds_70 : decode cX11_findNeeds 70 = .ok (.if_icmp .ge 27, 3) := by decide +kernel
theorem dX11_findNeeds_73 : decode cX11_findNeeds 73 = .ok (.aload_n 0, 1) := by decide +kernel
theorem dX11_findNeeds_74 : decode cX11_findNeeds 74 = .ok (.getfield 184, 3) := by decide +kernel
theorem dX11_findNeeds_77 : decode cX11_findNeeds 77 = .ok (.iload 4, 2) := by decide +kernel
theorem dX11_findNeeds_79 : decode cX11_findNeeds 79 = .ok (.iload 4, 2) := by decide +kernel
theorem dX11_findNeeds_81 : decode cX11_findNeeds 81 = .ok (.iload_n 2, 1) := by decide +kernel
theorem dX11_findNeeds_82 : decode cX11_findNeeds 82 = .ok (.if_icmp .eq 7, 3) := by decide +kernel
theorem dX11_findNeeds_85 : decode cX11_findNeeds 85 = .ok (.iconst 1, 1) := by decide +kernel
theorem dX11_findNeeds_86 : decode cX11_findNeeds 86 = .ok (.goto 4, 3) := by decide +kernel
theorem dX11_findNeeds_89 : decode cX11_findNeeds 89 = .ok (.iconst 0, 1) := by decide +kernel
theorem dX11_findNeeds_90 : decode cX11_findNeeds 90 = .ok (.bastore, 1) := by decide +kernel
theorem dX11_findNeeds_91 : decode cX11_findNeeds 91 = .ok (.iinc 4 1, 3) := by decide +kernel
theorem dX11_findNeeds_94 : decode cX11_findNeeds 94 = .ok (.goto (-28), 3) := by decide +kernel
theorem dX11_findNeeds_97 : decode cX11_findNeeds 97 = .ok (.aload_n 0, 1) := by decide +kernel
theorem dX11_findNeeds_98 : decode cX11_findNeeds 98 = .ok (.getfield 134, 3) := by decide +kernel
theorem dX11_findNeeds_101 : decode cX11_findNeeds 101 = .ok (.iload_n 1, 1) := by decide +kernel
theorem dX11_findNeeds_102 : decode cX11_findNeeds 102 = .ok (.aload_n 0, 1) := by decide +kernel
theorem dX11_findNeeds_103 : decode cX11_findNeeds 103 = .ok (.aload_n 0, 1) := by decide +kernel
theorem dX11_findNeeds_104 : decode cX11_findNeeds 104 = .ok (.iload_n 3, 1) := by decide +kernel
theorem dX11_findNeeds_105 : decode cX11_findNeeds 105 = .ok (.invokevirtual 567, 3) := by decide +kernel
theorem dX11_findNeeds_108 : decode cX11_findNeeds 108 = .ok (.iload_n 3, 1) := by decide +kernel
theorem dX11_findNeeds_109 : decode cX11_findNeeds 109 = .ok (.invokevirtual 564, 3) := by decide +kernel
theorem dX11_findNeeds_112 : decode cX11_findNeeds 112 = .ok (.ifCond .ne 7, 3) := by decide +kernel
theorem dX11_findNeeds_115 : decode cX11_findNeeds 115 = .ok (.iconst 1, 1) := by decide +kernel
theorem dX11_findNeeds_116 : decode cX11_findNeeds 116 = .ok (.goto 4, 3) := by decide +kernel
theorem dX11_findNeeds_119 : decode cX11_findNeeds 119 = .ok (.iconst 0, 1) := by decide +kernel
theorem dX11_findNeeds_120 : decode cX11_findNeeds 120 = .ok (.bastore, 1) := by decide +kernel
theorem dX11_findNeeds_121 : decode cX11_findNeeds 121 = .ok (.iinc 1 1, 3) := by decide +kernel
theorem dX11_findNeeds_124 : decode cX11_findNeeds 124 = .ok (.goto (-122), 3) := by decide +kernel
theorem dX11_findNeeds_127 : decode cX11_findNeeds 127 = .ok (.return_, 1) := by decide +kernel
theorem mw_X11_findNeeds : MW yX11_findNeeds (Cond.code yX11_findNeeds cX11_findNeeds 5 (Option.none : Option Jvm.ClassFile.FieldType)) cX11_findNeeds 5 (Option.none : Option Jvm.ClassFile.FieldType) 0 := ⟨rfl, ⟨(lw_all_tbl q3220), rfl, (lw_all_tbl q173)⟩, rfl, ⟨by decide, by decide⟩, by decide +kernel⟩
abbrev okt_findNeeds_66 (x : Int × Int × Int × Int) : Prop := R32 x.1 ∧ R32 x.2.1 ∧ R32 x.2.2.1 ∧ R32 x.2.2.2
abbrev lvt_findNeeds_66 (Γ : Gm) (x : Int × Int × Int × Int) : List (Nat × Value) := [(0, vA (mg Γ) 21), (1, vI x.1), (2, vI x.2.1), (3, vI x.2.2.1), (4, vI x.2.2.2)]
noncomputable def t_findNeeds_90 {A : Type} (k_97 : Int → Int → Mo TS A) (l1 : Int) (l2 : Int) (l3 : Int) (l4 : Int) (k0 : Int) (k1 : Int) : Mo TS ((Int × Int × Int × Int) ⊕ A) :=
  bnd (wr 87 640 k1 k0) fun _ =>
  pr (.inl (l1, l2, l3, (w32 (l4 + 1))))
theorem st_findNeeds_90 {Γ : Gm} {h : CH} {d : Nat} (hT : HT h) (o : Ok Γ "LazyForgeModel" cX11_findNeeds 5 (Option.none : Option Jvm.ClassFile.FieldType) (d + 4)) {A : Type} {K : A → TS → Prop}  (k_97 : Int → Int → Mo TS A) (hk_97 : ∀ (l1 : Int) (l3 : Int), R32 l1 → R32 l3 → Sx Γ (fun t => (h, t)) K 97 [(0, vA (mg Γ) 21), (1, vI l1), (3, vI l3)] [] (k_97 l1 l3)) (l1 : Int) (l2 : Int) (l3 : Int) (l4 : Int) (k0 : Int) (k1 : Int) (hl1 : R32 l1) (hl2 : R32 l2) (hl3 : R32 l3) (hl4 : R32 l4) (hk0 : rg .boolean k0) (hk1 : R32 k1) : Sx Γ (fun t => (h, t)) (KL Γ (fun t => (h, t)) okt_findNeeds_66 K 66 (lvt_findNeeds_66 Γ) []) 90 [(0, vA (mg Γ) 21), (1, vI l1), (2, vI l2), (3, vI l3), (4, vI l4)] [vI k0, vI k1, vA (mg Γ) 79] (t_findNeeds_90 k_97 l1 l2 l3 l4 k0 k1) := by
  unfold t_findNeeds_90
  refine r_tzast o hT tr_has hk1 hk0 dX11_findNeeds_90 ?_
  refine r_iinc (j := 4) o dX11_findNeeds_91 rfl rfl [(0, vA (mg Γ) 21), (1, vI l1), (2, vI l2), (3, vI l3)] [0, 1, 2, 3] rfl ⟨(Nat.ne_of_beq_eq_false rfl), (fun _ => (vA_cat (mg Γ) 21)), ⟨(Nat.ne_of_beq_eq_false rfl), (fun _ => rfl), ⟨(Nat.ne_of_beq_eq_false rfl), (fun _ => rfl), ⟨(Nat.ne_of_beq_eq_false rfl), (fun _ => rfl), trivial⟩⟩⟩⟩ ?_
  refine s_goto (tgt := 66) o dX11_findNeeds_94 (by decide) ?_
  refine r_to [(0, vA (mg Γ) 21), (1, vI l1), (2, vI l2), (3, vI l3), (4, vI (w32 (l4 + 1)))] [1, 2, 3, 4, 0] rfl ?_
  exact s_back (⟨hl1, hl2, hl3, (w32_R _)⟩) rfl
noncomputable def t_findNeeds_66b {A : Type} (k_97 : Int → Int → Mo TS A) (l1 : Int) (l2 : Int) (l3 : Int) (l4 : Int) : Mo TS ((Int × Int × Int × Int) ⊕ A) :=
  if 64 ≤ l4 then
    lo (k_97 l1 l3)
  else
    if l4 = l2 then
      t_findNeeds_90 k_97 l1 l2 l3 l4 0 l4
    else
      t_findNeeds_90 k_97 l1 l2 l3 l4 1 l4
theorem st_findNeeds_66b {Γ : Gm} {h : CH} {d : Nat} (hT : HT h) (o : Ok Γ "LazyForgeModel" cX11_findNeeds 5 (Option.none : Option Jvm.ClassFile.FieldType) (d + 4)) {A : Type} {K : A → TS → Prop} (k_97 : Int → Int → Mo TS A) (hk_97 : ∀ (l1 : Int) (l3 : Int), R32 l1 → R32 l3 → Sx Γ (fun t => (h, t)) K 97 [(0, vA (mg Γ) 21), (1, vI l1), (3, vI l3)] [] (k_97 l1 l3)) (l1 : Int) (l2 : Int) (l3 : Int) (l4 : Int) (hl1 : R32 l1) (hl2 : R32 l2) (hl3 : R32 l3) (hl4 : R32 l4) : Sx Γ (fun t => (h, t)) (KL Γ (fun t => (h, t)) okt_findNeeds_66 K 66 (lvt_findNeeds_66 Γ) []) 66 [(0, vA (mg Γ) 21), (1, vI l1), (2, vI l2), (3, vI l3), (4, vI l4)] [] (t_findNeeds_66b k_97 l1 l2 l3 l4) := by
  unfold t_findNeeds_66b
  refine s_iload o dX11_findNeeds_66 4 rfl ?_
  refine s_bipush o dX11_findNeeds_68 rfl ?_
  refine s_icmp_ge (tgt := 97) o dX11_findNeeds_70 (by decide) hl4 (r32 rfl) ?_ ?_
  · refine r_to [(0, vA (mg Γ) 21), (1, vI l1), (3, vI l3)] [0, 1, 3] rfl ?_
    exact s_lo (hk_97 l1 l3 hl1 hl3)
  · refine s_aload_n o dX11_findNeeds_73 rfl 0 rfl ?_
    refine s_tga (x := 79) o hT tf_has ta_has (lw_all_tbl q2591) dX11_findNeeds_74 ?_
    refine s_iload o dX11_findNeeds_77 4 rfl ?_
    refine s_iload o dX11_findNeeds_79 4 rfl ?_
    refine s_iload_n o dX11_findNeeds_81 rfl 2 rfl ?_
    refine s_icmp_eq (tgt := 89) o dX11_findNeeds_82 (by decide) hl4 hl2 ?_ ?_
    · refine s_iconst o dX11_findNeeds_89 ?_
      exact st_findNeeds_90 hT o k_97 hk_97 l1 l2 l3 l4 0 l4 hl1 hl2 hl3 hl4 (Or.inl rfl) hl4
    · refine s_iconst o dX11_findNeeds_85 ?_
      refine s_goto (tgt := 90) o dX11_findNeeds_86 (by decide) ?_
      exact st_findNeeds_90 hT o k_97 hk_97 l1 l2 l3 l4 1 l4 hl1 hl2 hl3 hl4 (Or.inr rfl) hl4
noncomputable def t_findNeeds_66 {A : Type} (k_97 : Int → Int → Mo TS A) (l1 : Int) (l2 : Int) (l3 : Int) (l4 : Int) : Mo TS A := Loop (fun x => t_findNeeds_66b k_97 x.1 x.2.1 x.2.2.1 x.2.2.2) (l1, l2, l3, l4)
theorem st_findNeeds_66 {Γ : Gm} {h : CH} {d : Nat} (hT : HT h) (o : Ok Γ "LazyForgeModel" cX11_findNeeds 5 (Option.none : Option Jvm.ClassFile.FieldType) (d + 4)) {A : Type} {K : A → TS → Prop} (k_97 : Int → Int → Mo TS A) (hk_97 : ∀ (l1 : Int) (l3 : Int), R32 l1 → R32 l3 → Sx Γ (fun t => (h, t)) K 97 [(0, vA (mg Γ) 21), (1, vI l1), (3, vI l3)] [] (k_97 l1 l3)) (l1 : Int) (l2 : Int) (l3 : Int) (l4 : Int) (hl1 : R32 l1) (hl2 : R32 l2) (hl3 : R32 l3) (hl4 : R32 l4) : Sx Γ (fun t => (h, t)) K 66 [(0, vA (mg Γ) 21), (1, vI l1), (2, vI l2), (3, vI l3), (4, vI l4)] [] (t_findNeeds_66 k_97 l1 l2 l3 l4) :=
  s_loop okt_findNeeds_66 (lvt_findNeeds_66 Γ) (fun x hx => st_findNeeds_66b hT o k_97 hk_97 x.1 x.2.1 x.2.2.1 x.2.2.2 hx.1 hx.2.1 hx.2.2.1 hx.2.2.2) (x := (l1, l2, l3, l4)) ⟨hl1, hl2, hl3, hl4⟩
abbrev okt_findNeeds_2 (x : Int) : Prop := R32 x
abbrev lvt_findNeeds_2 (Γ : Gm) (x : Int) : List (Nat × Value) := [(0, vA (mg Γ) 21), (1, vI x)]
noncomputable def t_findNeeds_121 {A : Type} (k_127 : Mo TS A) (l1 : Int) : Mo TS ((Int) ⊕ A) :=
  pr (.inl (w32 (l1 + 1)))
theorem st_findNeeds_121 {Γ : Gm} {h : CH} {d : Nat} (hT : HT h) (o : Ok Γ "LazyForgeModel" cX11_findNeeds 5 (Option.none : Option Jvm.ClassFile.FieldType) (d + 4)) {A : Type} {K : A → TS → Prop}  (k_127 : Mo TS A) (hk_127 : Sx Γ (fun t => (h, t)) K 127 [] [] (k_127)) (l1 : Int) (hl1 : R32 l1) : Sx Γ (fun t => (h, t)) (KL Γ (fun t => (h, t)) okt_findNeeds_2 K 2 (lvt_findNeeds_2 Γ) []) 121 [(0, vA (mg Γ) 21), (1, vI l1)] [] (t_findNeeds_121 k_127 l1) := by
  unfold t_findNeeds_121
  refine r_iinc (j := 1) o dX11_findNeeds_121 rfl rfl [(0, vA (mg Γ) 21)] [0] rfl ⟨(Nat.ne_of_beq_eq_false rfl), (fun _ => (vA_cat (mg Γ) 21)), trivial⟩ ?_
  refine s_goto (tgt := 2) o dX11_findNeeds_124 (by decide) ?_
  refine r_to [(0, vA (mg Γ) 21), (1, vI (w32 (l1 + 1)))] [1, 0] rfl ?_
  exact s_back (w32_R _) rfl
noncomputable def t_findNeeds_120 {A : Type} (k_127 : Mo TS A) (l1 : Int) (k0 : Int) (k1 : Int) : Mo TS ((Int) ⊕ A) :=
  bnd (wr 69 7000 k1 k0) fun _ =>
  t_findNeeds_121 k_127 l1
theorem st_findNeeds_120 {Γ : Gm} {h : CH} {d : Nat} (hT : HT h) (o : Ok Γ "LazyForgeModel" cX11_findNeeds 5 (Option.none : Option Jvm.ClassFile.FieldType) (d + 4)) {A : Type} {K : A → TS → Prop}  (k_127 : Mo TS A) (hk_127 : Sx Γ (fun t => (h, t)) K 127 [] [] (k_127)) (l1 : Int) (k0 : Int) (k1 : Int) (hl1 : R32 l1) (hk0 : rg .boolean k0) (hk1 : R32 k1) : Sx Γ (fun t => (h, t)) (KL Γ (fun t => (h, t)) okt_findNeeds_2 K 2 (lvt_findNeeds_2 Γ) []) 120 [(0, vA (mg Γ) 21), (1, vI l1)] [vI k0, vI k1, vA (mg Γ) 63] (t_findNeeds_120 k_127 l1 k0 k1) := by
  unfold t_findNeeds_120
  refine r_tzast o hT tr_liftNeeds hk1 hk0 dX11_findNeeds_120 ?_
  exact st_findNeeds_121 hT o k_127 hk_127 l1 hl1
noncomputable def t_findNeeds_2b {A : Type} (k_127 : Mo TS A) (l1 : Int) : Mo TS ((Int) ⊕ A) :=
  bnd (gs 63) fun v1 =>
  if v1 ≤ l1 then
    lo k_127
  else
    bnd (rd 64 7000 l1) fun v2 =>
    if ¬ v2 = 0 then
      t_findNeeds_121 k_127 l1
    else
      bnd (rd 65 7000 l1) fun v3 =>
      if ¬ v3 = 1 then
        t_findNeeds_121 k_127 l1
      else
        bnd (rd 68 7000 l1) fun v4 =>
        bnd (t_child l1 1) fun v5 =>
        bnd (t_child l1 0) fun v6 =>
        bnd (rd 72 7000 v6) fun v7 =>
        if ¬ (land (lshr v7 v4) 1) = 0 then
          t_findNeeds_121 k_127 l1
        else
          t_findNeeds_66
            (fun v8 v9 => bnd (t_firstWithin v9) fun v10 =>
          bnd (t_bitOfPart v10 v9) fun v11 =>
          if ¬ v11 = 0 then
            t_findNeeds_120 k_127 v8 0 v8
          else
            t_findNeeds_120 k_127 v8 1 v8) l1 v4 v5 0
theorem st_findNeeds_2b {Γ : Gm} {h : CH} {d : Nat} (hT : HT h) (o : Ok Γ "LazyForgeModel" cX11_findNeeds 5 (Option.none : Option Jvm.ClassFile.FieldType) (d + 4)) {A : Type} {K : A → TS → Prop} (k_127 : Mo TS A) (hk_127 : Sx Γ (fun t => (h, t)) K 127 [] [] (k_127)) (l1 : Int) (hl1 : R32 l1) : Sx Γ (fun t => (h, t)) (KL Γ (fun t => (h, t)) okt_findNeeds_2 K 2 (lvt_findNeeds_2 Γ) []) 2 [(0, vA (mg Γ) 21), (1, vI l1)] [] (t_findNeeds_2b k_127 l1) := by
  unfold t_findNeeds_2b
  refine s_iload_n o dX11_findNeeds_2 rfl 1 rfl ?_
  refine s_aload_n o dX11_findNeeds_3 rfl 0 rfl ?_
  refine r_tgf vI rfl o hT tf_lifted tj_lifted (lw_all_tbl q2567) dX11_findNeeds_4 (fun v1 hv1 => ?_)
  refine s_icmp_ge (tgt := 127) o dX11_findNeeds_7 (by decide) hl1 hv1 ?_ ?_
  · refine r_to [] [] rfl ?_
    exact s_lo hk_127
  · refine s_aload_n o dX11_findNeeds_10 rfl 0 rfl ?_
    refine s_tga (x := 58) o hT tf_liftKinds ta_liftKinds (lw_all_tbl q2568) dX11_findNeeds_11 ?_
    refine s_iload_n o dX11_findNeeds_14 rfl 1 rfl ?_
    refine r_tiald o hT tr_liftKinds hl1 dX11_findNeeds_15 (fun v2 hv2 => ?_)
    refine s_if_ne (tgt := 121) o dX11_findNeeds_16 (by decide) hv2 ?_ ?_
    · exact st_findNeeds_121 hT o k_127 hk_127 l1 hl1
    · refine s_aload_n o dX11_findNeeds_19 rfl 0 rfl ?_
      refine s_tga (x := 59) o hT tf_liftValues ta_liftValues (lw_all_tbl q2569) dX11_findNeeds_20 ?_
      refine s_iload_n o dX11_findNeeds_23 rfl 1 rfl ?_
      refine r_tiald o hT tr_liftValues hl1 dX11_findNeeds_24 (fun v3 hv3 => ?_)
      refine s_iconst o dX11_findNeeds_25 ?_
      refine s_icmp_ne (tgt := 121) o dX11_findNeeds_26 (by decide) hv3 (r32 rfl) ?_ ?_
      · exact st_findNeeds_121 hT o k_127 hk_127 l1 hl1
      · refine s_aload_n o dX11_findNeeds_29 rfl 0 rfl ?_
        refine s_tga (x := 62) o hT tf_liftVariables ta_liftVariables (lw_all_tbl q2572) dX11_findNeeds_30 ?_
        refine s_iload_n o dX11_findNeeds_33 rfl 1 rfl ?_
        refine r_tiald o hT tr_liftVariables hl1 dX11_findNeeds_34 (fun v4 hv4 => ?_)
        refine r_istore_n o dX11_findNeeds_35 rfl rfl ⟨(Nat.ne_of_beq_eq_false rfl), (fun _ => (vA_cat (mg Γ) 21)), ⟨(Nat.ne_of_beq_eq_false rfl), (fun _ => rfl), trivial⟩⟩ ?_
        refine s_aload_n o dX11_findNeeds_36 rfl 1 rfl ?_
        refine s_iload_n o dX11_findNeeds_37 rfl 2 rfl ?_
        refine s_iconst o dX11_findNeeds_38 ?_
        refine s_cv (d := d + 3) (C := "LazyForgeModel") (As := [vI l1, vI 1]) (st := []) o (st_child (mg Γ) (d + 3) h hT l1 1 hl1 (r32 rfl)) mw_X11_child rfl (Or.inl (lw_all_tbl q3189)) (lw_all_tbl qs115) (lw_all_tbl q3191) (fun t => rc_t o hT t) wt_0 rfl dX11_findNeeds_39 rfl (rs := fun r => [vI r]) (fun _ => rfl) (fun v5 hv5 => ?_)
        refine r_istore_n o dX11_findNeeds_42 rfl rfl ⟨(Nat.ne_of_beq_eq_false rfl), (fun _ => rfl), ⟨(Nat.ne_of_beq_eq_false rfl), (fun _ => (vA_cat (mg Γ) 21)), ⟨(Nat.ne_of_beq_eq_false rfl), (fun _ => rfl), trivial⟩⟩⟩ ?_
        refine s_aload_n o dX11_findNeeds_43 rfl 2 rfl ?_
        refine s_tga (x := 66) o hT tf_outside ta_outside (lw_all_tbl q2576) dX11_findNeeds_44 ?_
        refine s_aload_n o dX11_findNeeds_47 rfl 2 rfl ?_
        refine s_iload_n o dX11_findNeeds_48 rfl 3 rfl ?_
        refine s_iconst o dX11_findNeeds_49 ?_
        refine s_cv (d := d + 3) (C := "LazyForgeModel") (As := [vI l1, vI 0]) (st := [vA (mg Γ) 66]) o (st_child (mg Γ) (d + 3) h hT l1 0 hl1 (r32 rfl)) mw_X11_child rfl (Or.inl (lw_all_tbl q3189)) (lw_all_tbl qs115) (lw_all_tbl q3191) (fun t => rc_t o hT t) (wt_A wt_0) rfl dX11_findNeeds_50 rfl (rs := fun r => [vI r, vA (mg Γ) 66]) (fun _ => rfl) (fun v6 hv6 => ?_)
        refine r_tlald o hT tr_outside (hv6 _ rfl) dX11_findNeeds_53 (fun v7 hv7 => ?_)
        refine s_iload_n o dX11_findNeeds_54 rfl 1 rfl ?_
        refine s_lshr o dX11_findNeeds_55 ?_
        refine s_lconst (x := 1) o dX11_findNeeds_56 rfl ?_
        refine s_land o dX11_findNeeds_57 ?_
        refine s_lconst (x := 0) o dX11_findNeeds_58 rfl ?_
        refine s_lcmp_ne (tgt := 121) o dX11_findNeeds_59 dX11_findNeeds_60 (by decide) (land_R _ _) (r64 rfl) ?_ ?_
        · refine r_to [(0, vA (mg Γ) 21), (1, vI l1)] [2, 3] rfl ?_
          exact st_findNeeds_121 hT o k_127 hk_127 l1 hl1
        · refine s_iconst o dX11_findNeeds_63 ?_
          refine r_istore o dX11_findNeeds_64 rfl ⟨(Nat.ne_of_beq_eq_false rfl), (fun _ => rfl), ⟨(Nat.ne_of_beq_eq_false rfl), (fun _ => rfl), ⟨(Nat.ne_of_beq_eq_false rfl), (fun _ => (vA_cat (mg Γ) 21)), ⟨(Nat.ne_of_beq_eq_false rfl), (fun _ => rfl), trivial⟩⟩⟩⟩ ?_
          refine r_to [(0, vA (mg Γ) 21), (1, vI l1), (2, vI v4), (3, vI v5), (4, vI 0)] [3, 4, 2, 1, 0] rfl ?_
          refine st_findNeeds_66 hT o _ ?_ l1 v4 v5 0 hl1 hv4 (hv5 _ rfl) (r32 rfl)
          · intro v8 v9 hv8 hv9
            refine s_aload_n o dX11_findNeeds_97 rfl 0 rfl ?_
            refine s_tga (x := 63) o hT tf_liftNeeds ta_liftNeeds (lw_all_tbl q2573) dX11_findNeeds_98 ?_
            refine s_iload_n o dX11_findNeeds_101 rfl 1 rfl ?_
            refine s_aload_n o dX11_findNeeds_102 rfl 0 rfl ?_
            refine s_aload_n o dX11_findNeeds_103 rfl 0 rfl ?_
            refine s_iload_n o dX11_findNeeds_104 rfl 2 rfl ?_
            refine s_cv (d := d + 3) (C := "LazyForgeModel") (As := [vI v9]) (st := [vA (mg Γ) 21, vI v8, vA (mg Γ) 63]) o (st_firstWithin (mg Γ) (d + 2) h hT v9 hv9) mw_X11_firstWithin rfl (Or.inl (lw_all_tbl q3221)) (lw_all_tbl qs123) (lw_all_tbl q3223) (fun t => rc_t o hT t) (wt_A (wt_I (wt_A wt_0))) rfl dX11_findNeeds_105 rfl (rs := fun r => [vI r, vA (mg Γ) 21, vI v8, vA (mg Γ) 63]) (fun _ => rfl) (fun v10 hv10 => ?_)
            refine s_iload_n o dX11_findNeeds_108 rfl 2 rfl ?_
            refine s_cv (d := d + 3) (C := "LazyForgeModel") (As := [vI v10, vI v9]) (st := [vI v8, vA (mg Γ) 63]) o (st_bitOfPart (mg Γ) d h hT v10 v9 (hv10 _ rfl) hv9) mw_X11_bitOfPart rfl (Or.inl (lw_all_tbl q3201)) (lw_all_tbl qs118) (lw_all_tbl q3203) (fun t => rc_t o hT t) (wt_I (wt_A wt_0)) rfl dX11_findNeeds_109 rfl (rs := fun r => [vI r, vI v8, vA (mg Γ) 63]) (fun _ => rfl) (fun v11 hv11 => ?_)
            refine s_if_ne (tgt := 119) o dX11_findNeeds_112 (by decide) (rZ (hv11 _ rfl)) ?_ ?_
            · refine s_iconst o dX11_findNeeds_119 ?_
              refine r_to [(0, vA (mg Γ) 21), (1, vI v8)] [0, 1] rfl ?_
              exact st_findNeeds_120 hT o k_127 hk_127 v8 0 v8 hv8 (Or.inl rfl) hv8
            · refine s_iconst o dX11_findNeeds_115 ?_
              refine s_goto (tgt := 120) o dX11_findNeeds_116 (by decide) ?_
              refine r_to [(0, vA (mg Γ) 21), (1, vI v8)] [0, 1] rfl ?_
              exact st_findNeeds_120 hT o k_127 hk_127 v8 1 v8 hv8 (Or.inr rfl) hv8
noncomputable def t_findNeeds_2 {A : Type} (k_127 : Mo TS A) (l1 : Int) : Mo TS A := Loop (fun x => t_findNeeds_2b k_127 x) l1
theorem st_findNeeds_2 {Γ : Gm} {h : CH} {d : Nat} (hT : HT h) (o : Ok Γ "LazyForgeModel" cX11_findNeeds 5 (Option.none : Option Jvm.ClassFile.FieldType) (d + 4)) {A : Type} {K : A → TS → Prop} (k_127 : Mo TS A) (hk_127 : Sx Γ (fun t => (h, t)) K 127 [] [] (k_127)) (l1 : Int) (hl1 : R32 l1) : Sx Γ (fun t => (h, t)) K 2 [(0, vA (mg Γ) 21), (1, vI l1)] [] (t_findNeeds_2 k_127 l1) :=
  s_loop okt_findNeeds_2 (lvt_findNeeds_2 Γ) (fun x hx => st_findNeeds_2b hT o k_127 hk_127 x hx) (x := l1) hl1
noncomputable def t_findNeeds : Mo TS Int :=
  t_findNeeds_2
    (pr 0) 0
theorem st_findNeeds (g : gC) (d : Nat) (h : CH) (hT : HT h) : SF g yX11_findNeeds (Cond.code yX11_findNeeds cX11_findNeeds 5 (Option.none : Option Jvm.ClassFile.FieldType)) (Option.none : Option Jvm.ClassFile.FieldType) (d + 4) [vA g 21] (fun t => (h, t)) (t_findNeeds) := by
  refine SF.of (lv := [(0, vA g 21)]) (by decide) (wt_A wt_0) rfl (by simp only [la_A, la_I, la_J, la_0]) (fun Γ hg hnm o => ?_)
  subst hg
  have o : Ok Γ "LazyForgeModel" cX11_findNeeds 5 (Option.none : Option Jvm.ClassFile.FieldType) (d + 4) := o
  unfold t_findNeeds
  refine s_iconst o dX11_findNeeds_0 ?_
  refine r_istore_n o dX11_findNeeds_1 rfl rfl ⟨(Nat.ne_of_beq_eq_false rfl), (fun _ => (vA_cat (mg Γ) 21)), trivial⟩ ?_
  refine r_to [(0, vA (mg Γ) 21), (1, vI 0)] [1, 0] rfl ?_
  refine st_findNeeds_2 hT o _ ?_ 0 (r32 rfl)
  · exact s_vret o rfl dX11_findNeeds_127 (fun _ hh => hh)
theorem dX11_keep_0 : decode cX11_keep 0 = .ok (.aload_n 0, 1) := by decide +kernel
theorem dX11_keep_1 : decode cX11_keep 1 = .ok (.iload_n 1, 1) := by decide +kernel
theorem dX11_keep_2 : decode cX11_keep 2 = .ok (.invokevirtual 666, 3) := by decide +kernel
theorem dX11_keep_5 : decode cX11_keep 5 = .ok (.lstore_n 2, 1) := by decide +kernel
theorem dX11_keep_6 : decode cX11_keep 6 = .ok (.lload_n 2, 1) := by decide +kernel
theorem dX11_keep_7 : decode cX11_keep 7 = .ok (.lconst 0, 1) := by decide +kernel
theorem dX11_keep_8 : decode cX11_keep 8 = .ok (.lcmp, 1) := by decide +kernel
theorem dX11_keep_9 : decode cX11_keep 9 = .ok (.ifCond .lt 5, 3) := by decide +kernel
theorem dX11_keep_12 : decode cX11_keep 12 = .ok (.lload_n 2, 1) := by decide +kernel
theorem dX11_keep_13 : decode cX11_keep 13 = .ok (.lreturn, 1) := by decide +kernel
theorem dX11_keep_14 : decode cX11_keep 14 = .ok (.aload_n 0, 1) := by decide +kernel
theorem dX11_keep_15 : decode cX11_keep 15 = .ok (.iload_n 1, 1) := by decide +kernel
theorem dX11_keep_16 : decode cX11_keep 16 = .ok (.invokevirtual 670, 3) := by decide +kernel
theorem dX11_keep_19 : decode cX11_keep 19 = .ok (.istore 4, 2) := by decide +kernel
theorem dX11_keep_21 : decode cX11_keep 21 = .ok (.iload 4, 2) := by decide +kernel
theorem dX11_keep_23 : decode cX11_keep 23 = .ok (.ifCond .ge 5, 3) := by decide +kernel
theorem dX11_keep_26 : decode cX11_keep 26 = .ok (.lconst 0, 1) := by decide +kernel
theorem dX11_keep_27 : decode cX11_keep 27 = .ok (.lreturn, 1) := by decide +kernel
theorem dX11_keep_28 : decode cX11_keep 28 = .ok (.aload_n 0, 1) := by decide +kernel
theorem dX11_keep_29 : decode cX11_keep 29 = .ok (.iconst 0, 1) := by decide +kernel
theorem dX11_keep_30 : decode cX11_keep 30 = .ok (.putfield 663, 3) := by decide +kernel
theorem dX11_keep_33 : decode cX11_keep 33 = .ok (.aload_n 0, 1) := by decide +kernel
theorem dX11_keep_34 : decode cX11_keep 34 = .ok (.iload_n 1, 1) := by decide +kernel
theorem dX11_keep_35 : decode cX11_keep 35 = .ok (.iload 4, 2) := by decide +kernel
theorem dX11_keep_37 : decode cX11_keep 37 = .ok (.invokevirtual 673, 3) := by decide +kernel
theorem dX11_keep_40 : decode cX11_keep 40 = .ok (.aload_n 0, 1) := by decide +kernel
theorem dX11_keep_41 : decode cX11_keep 41 = .ok (.invokevirtual 676, 3) := by decide +kernel
theorem dX11_keep_44 : decode cX11_keep 44 = .ok (.iconst 3, 1) := by decide +kernel
theorem dX11_keep_45 : decode cX11_keep 45 = .ok (.iload 4, 2) := by decide +kernel
theorem dX11_keep_47 : decode cX11_keep 47 = .ok (.invokestatic 650, 3) := by decide +kernel
theorem dX11_keep_50 : decode cX11_keep 50 = .ok (.lreturn, 1) := by decide +kernel
theorem mw_X11_keep : MW yX11_keep (Cond.code yX11_keep cX11_keep 5 (Option.some Jvm.ClassFile.FieldType.long)) cX11_keep 5 (Option.some Jvm.ClassFile.FieldType.long) 1 := ⟨rfl, ⟨(lw_all_tbl q3300), rfl, (lw_all_tbl q173)⟩, rfl, ⟨by decide, by decide⟩, by decide +kernel⟩
noncomputable def t_keep (l1 : Int) : Mo TS Int :=
  bnd (t_plain l1) fun v1 =>
  if v1 < 0 then
    bnd (t_make l1) fun v2 =>
    if 0 ≤ v2 then
      bnd (ss 128 0) fun _ =>
      bnd (t_fill l1 v2) fun _ =>
      bnd (t_doTasks) fun _ =>
      bnd (t_value 3 v2) fun v3 =>
      pr v3
    else
      pr 0
  else
    pr v1
theorem st_keep (g : gC) (d : Nat) (h : CH) (hT : HT h) (l1 : Int) (hl1 : R32 l1) : SF g yX11_keep (Cond.code yX11_keep cX11_keep 5 (Option.some Jvm.ClassFile.FieldType.long)) (Option.some Jvm.ClassFile.FieldType.long) (d + 4) [vA g 21, vI l1] (fun t => (h, t)) (t_keep l1) := by
  refine SF.of (lv := [(0, vA g 21), (1, vI l1)]) (by decide) (wt_A (wt_I wt_0)) rfl (by simp only [la_A, la_I, la_J, la_0]) (fun Γ hg hnm o => ?_)
  subst hg
  have o : Ok Γ "LazyForgeModel" cX11_keep 5 (Option.some Jvm.ClassFile.FieldType.long) (d + 4) := o
  unfold t_keep
  refine s_aload_n o dX11_keep_0 rfl 0 rfl ?_
  refine s_iload_n o dX11_keep_1 rfl 1 rfl ?_
  refine s_cv (d := d + 3) (C := "LazyForgeModel") (As := [vI l1]) (st := []) o (st_plain (mg Γ) (d + 2) h hT l1 hl1) mw_X11_plain rfl (Or.inl (lw_all_tbl q3301)) (lw_all_tbl qs139) (lw_all_tbl q3303) (fun t => rc_t o hT t) wt_0 rfl dX11_keep_2 rfl (rs := fun r => [vJ r]) (fun _ => rfl) (fun v1 hv1 => ?_)
  refine r_lstore_n o dX11_keep_5 rfl rfl ⟨(Nat.ne_of_beq_eq_false rfl), (Nat.ne_of_beq_eq_false rfl), (fun _ => (vA_cat (mg Γ) 21)), ⟨(Nat.ne_of_beq_eq_false rfl), (Nat.ne_of_beq_eq_false rfl), (fun _ => rfl), trivial⟩⟩ ?_
  refine s_lload_n o dX11_keep_6 rfl 0 rfl ?_
  refine s_lconst (x := 0) o dX11_keep_7 rfl ?_
  refine s_lcmp_lt (tgt := 14) o dX11_keep_8 dX11_keep_9 (by decide) (hv1 _ rfl) (r64 rfl) ?_ ?_
  · refine s_aload_n o dX11_keep_14 rfl 1 rfl ?_
    refine s_iload_n o dX11_keep_15 rfl 2 rfl ?_
    refine s_cv (d := d + 3) (C := "LazyForgeModel") (As := [vI l1]) (st := []) o (st_make (mg Γ) (d + 1) h hT l1 hl1) mw_X11_make rfl (Or.inl (lw_all_tbl q3305)) (lw_all_tbl qs140) (lw_all_tbl q3307) (fun t => rc_t o hT t) wt_0 rfl dX11_keep_16 rfl (rs := fun r => [vI r]) (fun _ => rfl) (fun v2 hv2 => ?_)
    refine r_istore o dX11_keep_19 rfl ⟨(Nat.ne_of_beq_eq_false rfl), (fun e => absurd e (Nat.ne_of_beq_eq_false rfl)), ⟨(Nat.ne_of_beq_eq_false rfl), (fun _ => (vA_cat (mg Γ) 21)), ⟨(Nat.ne_of_beq_eq_false rfl), (fun _ => rfl), trivial⟩⟩⟩ ?_
    refine s_iload o dX11_keep_21 0 rfl ?_
    refine s_if_ge (tgt := 28) o dX11_keep_23 (by decide) (hv2 _ rfl) ?_ ?_
    · refine s_aload_n o dX11_keep_28 rfl 2 rfl ?_
      refine s_iconst o dX11_keep_29 ?_
      refine r_tpf vI rfl o hT tf_tasks tj_tasks (lw_all_tbl q2632) dX11_keep_30 (r32 rfl) ty_int ?_
      refine s_aload_n o dX11_keep_33 rfl 2 rfl ?_
      refine s_iload_n o dX11_keep_34 rfl 3 rfl ?_
      refine s_iload o dX11_keep_35 0 rfl ?_
      refine s_cv (d := d + 3) (C := "LazyForgeModel") (As := [vI l1, vI v2]) (st := []) o (st_fill (mg Γ) (d + 2) h hT l1 v2 hl1 (hv2 _ rfl)) mw_X11_fill rfl (Or.inl (lw_all_tbl q3316)) (lw_all_tbl qs142) (lw_all_tbl q3318) (fun t => rc_t o hT t) wt_0 rfl dX11_keep_37 rfl (rs := fun _ => []) (fun _ => rfl) (fun _ _ => ?_)
      refine s_aload_n o dX11_keep_40 rfl 2 rfl ?_
      refine s_cv (d := d + 3) (C := "LazyForgeModel") (As := []) (st := []) o (st_doTasks (mg Γ) d h hT) mw_X11_doTasks rfl (Or.inl (lw_all_tbl q3320)) (lw_all_tbl qs143) (lw_all_tbl q3322) (fun t => rc_t o hT t) wt_0 rfl dX11_keep_41 rfl (rs := fun _ => []) (fun _ => rfl) (fun _ _ => ?_)
      refine s_iconst o dX11_keep_44 ?_
      refine s_iload o dX11_keep_45 0 rfl ?_
      refine s_cs (d := d + 3) (As := [vI 3, vI v2]) (st := []) o (st_value (mg Γ) (d + 3) h 3 v2 (r32 rfl) (hv2 _ rfl)) mw_X11_value rfl (Or.inl (lw_all_tbl q3242)) (lw_all_tbl q3243) wt_0 rfl dX11_keep_47 rfl (rs := fun r => [vJ r]) (fun _ => rfl) (fun v3 hv3 => ?_)
      exact s_lret o rfl (hv3 _ rfl) dX11_keep_50 (fun _ hh => hh)
    · refine s_lconst (x := 0) o dX11_keep_26 rfl ?_
      exact s_lret o rfl (r64 rfl) dX11_keep_27 (fun _ hh => hh)
  · refine s_lload_n o dX11_keep_12 rfl 0 rfl ?_
    exact s_lret o rfl (hv1 _ rfl) dX11_keep_13 (fun _ hh => hh)
theorem dX11_keepBindings_0 : decode cX11_keepBindings 0 = .ok (.aload_n 0, 1) := by decide +kernel
theorem dX11_keepBindings_1 : decode cX11_keepBindings 1 = .ok (.getfield 122, 3) := by decide +kernel
theorem dX11_keepBindings_4 : decode cX11_keepBindings 4 = .ok (.iload_n 1, 1) := by decide +kernel
theorem dX11_keepBindings_5 : decode cX11_keepBindings 5 = .ok (.iaload, 1) := by decide +kernel
theorem dX11_keepBindings_6 : decode cX11_keepBindings 6 = .ok (.istore_n 2, 1) := by decide +kernel
theorem dX11_keepBindings_7 : decode cX11_keepBindings 7 = .ok (.aload_n 0, 1) := by decide +kernel
theorem dX11_keepBindings_8 : decode cX11_keepBindings 8 = .ok (.getfield 131, 3) := by decide +kernel
theorem dX11_keepBindings_11 : decode cX11_keepBindings 11 = .ok (.iload_n 1, 1) := by decide +kernel
theorem dX11_keepBindings_12 : decode cX11_keepBindings 12 = .ok (.iaload, 1) := by decide +kernel
theorem dX11_keepBindings_13 : decode cX11_keepBindings 13 = .ok (.istore_n 3, 1) := by decide +kernel
theorem dX11_keepBindings_14 : decode cX11_keepBindings 14 = .ok (.iconst 0, 1) := by decide +kernel
theorem dX11_keepBindings_15 : decode cX11_keepBindings 15 = .ok (.istore 4, 2) := by decide +kernel
theorem dX11_keepBindings_17 : decode cX11_keepBindings 17 = .ok (.iload 4, 2) := by decide +kernel
theorem dX11_keepBindings_19 : decode cX11_keepBindings 19 = .ok (.iload_n 2, 1) := by decide +kernel
theorem dX11_keepBindings_20 : decode cX11_keepBindings 20 = .ok (.if_icmp .ge 102, 3) := by decide +kernel
theorem dX11_keepBindings_23 : decode cX11_keepBindings 23 = .ok (.aload_n 0, 1) := by decide +kernel
theorem dX11_keepBindings_24 : decode cX11_keepBindings 24 = .ok (.getfield 605, 3) := by decide +kernel
theorem dX11_keepBindings_27 : decode cX11_keepBindings 27 = .ok (.ifCond .ne 95, 3) := by decide +kernel
theorem dX11_keepBindings_30 : decode cX11_keepBindings 30 = .ok (.aload_n 0, 1) := by decide +kernel
theorem dX11_keepBindings_31 : decode cX11_keepBindings 31 = .ok (.iload_n 1, 1) := by decide +kernel
theorem dX11_keepBindings_32 : decode cX11_keepBindings 32 = .ok (.iload 4, 2) := by decide +kernel
theorem dX11_keepBindings_34 : decode cX11_keepBindings 34 = .ok (.invokevirtual 545, 3) := by decide +kernel
theorem dX11_keepBindings_37 : decode cX11_keepBindings 37 = .ok (.istore 5, 2) := by decide +kernel
theorem dX11_keepBindings_39 : decode cX11_keepBindings 39 = .ok (.aload_n 0, 1) := by decide +kernel
theorem dX11_keepBindings_40 : decode cX11_keepBindings 40 = .ok (.getfield 119, 3) := by decide +kernel
theorem dX11_keepBindings_43 : decode cX11_keepBindings 43 = .ok (.iload 5, 2) := by decide +kernel
theorem dX11_keepBindings_45 : decode cX11_keepBindings 45 = .ok (.iaload, 1) := by decide +kernel
theorem dX11_keepBindings_46 : decode cX11_keepBindings 46 = .ok (.bipush 13, 2) := by decide +kernel
theorem dX11_keepBindings_48 : decode cX11_keepBindings 48 = .ok (.if_icmp .ne 9, 3) := by decide +kernel
theorem dX11_keepBindings_51 : decode cX11_keepBindings 51 = .ok (.ldc2_w 543, 3) := by decide +kernel
theorem dX11_keepBindings_54 : decode cX11_keepBindings 54 = .ok (.goto 9, 3) := by decide +kernel
theorem dX11_keepBindings_57 : decode cX11_keepBindings 57 = .ok (.aload_n 0, 1) := by decide +kernel
theorem dX11_keepBindings_58 : decode cX11_keepBindings 58 = .ok (.iload 5, 2) := by decide +kernel
theorem dX11_keepBindings_60 : decode cX11_keepBindings 60 = .ok (.invokevirtual 666, 3) := by decide +kernel
theorem dX11_keepBindings_63 : decode cX11_keepBindings 63 = .ok (.lstore 6, 2) := by decide +kernel
theorem dX11_keepBindings_65 : decode cX11_keepBindings 65 = .ok (.lload 6, 2) := by decide +kernel
theorem dX11_keepBindings_67 : decode cX11_keepBindings 67 = .ok (.lconst 0, 1) := by decide +kernel
theorem dX11_keepBindings_68 : decode cX11_keepBindings 68 = .ok (.lcmp, 1) := by decide +kernel
theorem dX11_keepBindings_69 : decode cX11_keepBindings 69 = .ok (.ifCond .ge 12, 3) := by decide +kernel
theorem dX11_keepBindings_72 : decode cX11_keepBindings 72 = .ok (.aload_n 0, 1) := by decide +kernel
theorem dX11_keepBindings_73 : decode cX11_keepBindings 73 = .ok (.iload 5, 2) := by decide +kernel
theorem dX11_keepBindings_75 : decode cX11_keepBindings 75 = .ok (.invokevirtual 670, 3) := by decide +kernel
theorem dX11_keepBindings_78 : decode cX11_keepBindings 78 = .ok (.goto 4, 3) := by decide +kernel
theorem dX11_keepBindings_81 : decode cX11_keepBindings 81 = .ok (.iconst 0, 1) := by decide +kernel
theorem dX11_keepBindings_82 : decode cX11_keepBindings 82 = .ok (.istore 8, 2) := by decide +kernel
theorem dX11_keepBindings_84 : decode cX11_keepBindings 84 = .ok (.aload_n 0, 1) := by decide +kernel
theorem dX11_keepBindings_85 : decode cX11_keepBindings 85 = .ok (.getfield 233, 3) := by decide +kernel
theorem dX11_keepBindings_88 : decode cX11_keepBindings 88 = .ok (.aload_n 0, 1) := by decide +kernel
theorem dX11_keepBindings_89 : decode cX11_keepBindings 89 = .ok (.getfield 614, 3) := by decide +kernel
theorem dX11_keepBindings_92 : decode cX11_keepBindings 92 = .ok (.iload_n 3, 1) := by decide +kernel
theorem dX11_keepBindings_93 : decode cX11_keepBindings 93 = .ok (.iadd, 1) := by decide +kernel
theorem dX11_keepBindings_94 : decode cX11_keepBindings 94 = .ok (.iload 4, 2) := by decide +kernel
theorem dX11_keepBindings_96 : decode cX11_keepBindings 96 = .ok (.iadd, 1) := by decide +kernel
theorem dX11_keepBindings_97 : decode cX11_keepBindings 97 = .ok (.lload 6, 2) := by decide +kernel
theorem dX11_keepBindings_99 : decode cX11_keepBindings 99 = .ok (.lconst 0, 1) := by decide +kernel
theorem dX11_keepBindings_100 : decode cX11_keepBindings 100 = .ok (.lcmp, 1) := by decide +kernel
theorem dX11_keepBindings_101 : decode cX11_keepBindings 101 = .ok (.ifCond .ge 12, 3) := by decide +kernel
theorem dX11_keepBindings_104 : decode cX11_keepBindings 104 = .ok (.iconst 3, 1) := by decide +kernel
theorem dX11_keepBindings_105 : decode cX11_keepBindings 105 = .ok (.iload 8, 2) := by decide +kernel
theorem dX11_keepBindings_107 : decode cX11_keepBindings 107 = .ok (.invokestatic 650, 3) := by decide +kernel
theorem dX11_keepBindings_110 : decode cX11_keepBindings 110 = .ok (.goto 5, 3) := by decide +kernel
theorem dX11_keepBindings_113 : decode cX11_keepBindings 113 = .ok (.lload 6, 2) := by decide +kernel
theorem dX11_keepBindings_115 : decode cX11_keepBindings 115 = .ok (.lastore, 1) := by decide +kernel
theorem dX11_keepBindings_116 : decode cX11_keepBindings 116 = .ok (.iinc 4 1, 3) := by decide +kernel
theorem dX11_keepBindings_119 : decode cX11_keepBindings 119 = .ok (.goto (-102), 3) := by decide +kernel
theorem dX11_keepBindings_122 : decode cX11_keepBindings 122 = .ok (.iconst 0, 1) := by decide +kernel
theorem dX11_keepBindings_123 : decode cX11_keepBindings 123 = .ok (.istore 4, 2) := by decide +kernel
theorem dX11_keepBindings_125 : decode cX11_keepBindings 125 = .ok (.iload 4, 2) := by decide +kernel
theorem dX11_keepBindings_127 : decode cX11_keepBindings 127 = .ok (.iload_n 2, 1) := by decide +kernel
theorem dX11_keepBindings_128 : decode cX11_keepBindings 128 = .ok (.if_icmp .ge 92, 3) := by decide +kernel
theorem dX11_keepBindings_131 : decode cX11_keepBindings 131 = .ok (.aload_n 0, 1) := by decide +kernel
theorem dX11_keepBindings_132 : decode cX11_keepBindings 132 = .ok (.getfield 605, 3) := by decide +kernel
theorem dX11_keepBindings_135 : decode cX11_keepBindings 135 = .ok (.ifCond .ne 85, 3) := by decide +kernel
theorem dX11_keepBindings_138 : decode cX11_keepBindings 138 = .ok (.aload_n 0, 1) := by decide +kernel
theorem dX11_keepBindings_139 : decode cX11_keepBindings 139 = .ok (.iload_n 1, 1) := by decide +kernel
theorem dX11_keepBindings_140 : decode cX11_keepBindings 140 = .ok (.iload 4, 2) := by decide +kernel
theorem dX11_keepBindings_142 : decode cX11_keepBindings 142 = .ok (.invokevirtual 545, 3) := by decide +kernel
theorem dX11_keepBindings_145 : decode cX11_keepBindings 145 = .ok (.istore 5, 2) := by decide +kernel
theorem dX11_keepBindings_147 : decode cX11_keepBindings 147 = .ok (.aload_n 0, 1) := by decide +kernel
theorem dX11_keepBindings_148 : decode cX11_keepBindings 148 = .ok (.getfield 119, 3) := by decide +kernel
theorem dX11_keepBindings_151 : decode cX11_keepBindings 151 = .ok (.iload 5, 2) := by decide +kernel
theorem dX11_keepBindings_153 : decode cX11_keepBindings 153 = .ok (.iaload, 1) := by decide +kernel
theorem dX11_keepBindings_154 : decode cX11_keepBindings 154 = .ok (.bipush 13, 2) := by decide +kernel
theorem dX11_keepBindings_156 : decode cX11_keepBindings 156 = .ok (.if_icmp .eq 14, 3) := by decide +kernel
theorem dX11_keepBindings_159 : decode cX11_keepBindings 159 = .ok (.aload_n 0, 1) := by decide +kernel
theorem dX11_keepBindings_160 : decode cX11_keepBindings 160 = .ok (.iload 5, 2) := by decide +kernel
theorem dX11_keepBindings_162 : decode cX11_keepBindings 162 = .ok (.invokevirtual 666, 3) := by decide +kernel
theorem dX11_keepBindings_165 : decode cX11_keepBindings 165 = .ok (.lconst 0, 1) := by decide +kernel
theorem dX11_keepBindings_166 : decode cX11_keepBindings 166 = .ok (.lcmp, 1) := by decide +kernel
theorem dX11_keepBindings_167 : decode cX11_keepBindings 167 = .ok (.ifCond .ge 7, 3) := by decide +kernel
theorem dX11_keepBindings_170 : decode cX11_keepBindings 170 = .ok (.iconst 1, 1) := by decide +kernel
theorem dX11_keepBindings_171 : decode cX11_keepBindings 171 = .ok (.goto 4, 3) := by decide +kernel
theorem dX11_keepBindings_174 : decode cX11_keepBindings 174 = .ok (.iconst 0, 1) := by decide +kernel
theorem dX11_keepBindings_175 : decode cX11_keepBindings 175 = .ok (.istore 6, 2) := by decide +kernel
theorem dX11_keepBindings_177 : decode cX11_keepBindings 177 = .ok (.iload 6, 2) := by decide +kernel
theorem dX11_keepBindings_179 : decode cX11_keepBindings 179 = .ok (.ifCond .eq 35, 3) := by decide +kernel
theorem dX11_keepBindings_182 : decode cX11_keepBindings 182 = .ok (.aload_n 0, 1) := by decide +kernel
theorem dX11_keepBindings_183 : decode cX11_keepBindings 183 = .ok (.iconst 0, 1) := by decide +kernel
theorem dX11_keepBindings_184 : decode cX11_keepBindings 184 = .ok (.putfield 663, 3) := by decide +kernel
theorem dX11_keepBindings_187 : decode cX11_keepBindings 187 = .ok (.aload_n 0, 1) := by decide +kernel
theorem dX11_keepBindings_188 : decode cX11_keepBindings 188 = .ok (.iload 5, 2) := by decide +kernel
theorem dX11_keepBindings_190 : decode cX11_keepBindings 190 = .ok (.aload_n 0, 1) := by decide +kernel
theorem dX11_keepBindings_191 : decode cX11_keepBindings 191 = .ok (.getfield 233, 3) := by decide +kernel
theorem dX11_keepBindings_194 : decode cX11_keepBindings 194 = .ok (.aload_n 0, 1) := by decide +kernel
theorem dX11_keepBindings_195 : decode cX11_keepBindings 195 = .ok (.getfield 614, 3) := by decide +kernel
theorem dX11_keepBindings_198 : decode cX11_keepBindings 198 = .ok (.iload_n 3, 1) := by decide +kernel
theorem dX11_keepBindings_199 : decode cX11_keepBindings 199 = .ok (.iadd, 1) := by decide +kernel
theorem dX11_keepBindings_200 : decode cX11_keepBindings 200 = .ok (.iload 4, 2) := by decide +kernel
theorem dX11_keepBindings_202 : decode cX11_keepBindings 202 = .ok (.iadd, 1) := by decide +kernel
theorem dX11_keepBindings_203 : decode cX11_keepBindings 203 = .ok (.laload, 1) := by decide +kernel
theorem dX11_keepBindings_204 : decode cX11_keepBindings 204 = .ok (.invokestatic 679, 3) := by decide +kernel
theorem dX11_keepBindings_207 : decode cX11_keepBindings 207 = .ok (.invokevirtual 673, 3) := by decide +kernel
theorem dX11_keepBindings_210 : decode cX11_keepBindings 210 = .ok (.aload_n 0, 1) := by decide +kernel
theorem dX11_keepBindings_211 : decode cX11_keepBindings 211 = .ok (.invokevirtual 676, 3) := by decide +kernel
theorem dX11_keepBindings_214 : decode cX11_keepBindings 214 = .ok (.iinc 4 1, 3) := by decide +kernel
theorem dX11_keepBindings_217 : decode cX11_keepBindings 217 = .ok (.goto (-92), 3) := by decide +kernel
theorem dX11_keepBindings_220 : decode cX11_keepBindings 220 = .ok (.return_, 1) := by decide +kernel
theorem mw_X11_keepBindings : MW yX11_keepBindings (Cond.code yX11_keepBindings cX11_keepBindings 9 (Option.none : Option Jvm.ClassFile.FieldType)) cX11_keepBindings 9 (Option.none : Option Jvm.ClassFile.FieldType) 1 := ⟨rfl, ⟨(lw_all_tbl q3339), rfl, (lw_all_tbl q173)⟩, rfl, ⟨by decide, by decide⟩, by decide +kernel⟩
abbrev okt_keepBindings_125 (x : Int × Int × Int × Int) : Prop := R32 x.1 ∧ R32 x.2.1 ∧ R32 x.2.2.1 ∧ R32 x.2.2.2
abbrev lvt_keepBindings_125 (Γ : Gm) (x : Int × Int × Int × Int) : List (Nat × Value) := [(0, vA (mg Γ) 21), (1, vI x.1), (2, vI x.2.1), (3, vI x.2.2.1), (4, vI x.2.2.2)]
noncomputable def t_keepBindings_214 {A : Type} (k_220 : Mo TS A) (l1 : Int) (l2 : Int) (l3 : Int) (l4 : Int) : Mo TS ((Int × Int × Int × Int) ⊕ A) :=
  pr (.inl (l1, l2, l3, (w32 (l4 + 1))))
theorem st_keepBindings_214 {Γ : Gm} {h : CH} {d : Nat} (hT : HT h) (o : Ok Γ "LazyForgeModel" cX11_keepBindings 9 (Option.none : Option Jvm.ClassFile.FieldType) (d + 4)) {A : Type} {K : A → TS → Prop}  (k_220 : Mo TS A) (hk_220 : Sx Γ (fun t => (h, t)) K 220 [] [] (k_220)) (l1 : Int) (l2 : Int) (l3 : Int) (l4 : Int) (hl1 : R32 l1) (hl2 : R32 l2) (hl3 : R32 l3) (hl4 : R32 l4) : Sx Γ (fun t => (h, t)) (KL Γ (fun t => (h, t)) okt_keepBindings_125 K 125 (lvt_keepBindings_125 Γ) []) 214 [(0, vA (mg Γ) 21), (1, vI l1), (2, vI l2), (3, vI l3), (4, vI l4)] [] (t_keepBindings_214 k_220 l1 l2 l3 l4) := by
  unfold t_keepBindings_214
  refine r_iinc (j := 4) o dX11_keepBindings_214 rfl rfl [(0, vA (mg Γ) 21), (1, vI l1), (2, vI l2), (3, vI l3)] [0, 1, 2, 3] rfl ⟨(Nat.ne_of_beq_eq_false rfl), (fun _ => (vA_cat (mg Γ) 21)), ⟨(Nat.ne_of_beq_eq_false rfl), (fun _ => rfl), ⟨(Nat.ne_of_beq_eq_false rfl), (fun _ => rfl), ⟨(Nat.ne_of_beq_eq_false rfl), (fun _ => rfl), trivial⟩⟩⟩⟩ ?_
  refine s_goto (tgt := 125) o dX11_keepBindings_217 (by decide) ?_
  refine r_to [(0, vA (mg Γ) 21), (1, vI l1), (2, vI l2), (3, vI l3), (4, vI (w32 (l4 + 1)))] [1, 2, 3, 4, 0] rfl ?_
  exact s_back (⟨hl1, hl2, hl3, (w32_R _)⟩) rfl
noncomputable def t_keepBindings_175 {A : Type} (k_220 : Mo TS A) (l1 : Int) (l2 : Int) (l3 : Int) (l4 : Int) (l5 : Int) (k0 : Int) : Mo TS ((Int × Int × Int × Int) ⊕ A) :=
  if k0 = 0 then
    t_keepBindings_214 k_220 l1 l2 l3 l4
  else
    bnd (ss 128 0) fun _ =>
    bnd (gs 122) fun v1 =>
    bnd (rd 124 193000 (w32 ((w32 (v1 + l3)) + l4))) fun v2 =>
    bnd (t_of v2) fun v3 =>
    bnd (t_fill l5 v3) fun _ =>
    bnd (t_doTasks) fun _ =>
    t_keepBindings_214 k_220 l1 l2 l3 l4
theorem st_keepBindings_175 {Γ : Gm} {h : CH} {d : Nat} (hT : HT h) (o : Ok Γ "LazyForgeModel" cX11_keepBindings 9 (Option.none : Option Jvm.ClassFile.FieldType) (d + 4)) {A : Type} {K : A → TS → Prop}  (k_220 : Mo TS A) (hk_220 : Sx Γ (fun t => (h, t)) K 220 [] [] (k_220)) (l1 : Int) (l2 : Int) (l3 : Int) (l4 : Int) (l5 : Int) (k0 : Int) (hl1 : R32 l1) (hl2 : R32 l2) (hl3 : R32 l3) (hl4 : R32 l4) (hl5 : R32 l5) (hk0 : rg .boolean k0) : Sx Γ (fun t => (h, t)) (KL Γ (fun t => (h, t)) okt_keepBindings_125 K 125 (lvt_keepBindings_125 Γ) []) 175 [(0, vA (mg Γ) 21), (1, vI l1), (2, vI l2), (3, vI l3), (4, vI l4), (5, vI l5)] [vI k0] (t_keepBindings_175 k_220 l1 l2 l3 l4 l5 k0) := by
  unfold t_keepBindings_175
  refine r_istore o dX11_keepBindings_175 rfl ⟨(Nat.ne_of_beq_eq_false rfl), (fun _ => (vA_cat (mg Γ) 21)), ⟨(Nat.ne_of_beq_eq_false rfl), (fun _ => rfl), ⟨(Nat.ne_of_beq_eq_false rfl), (fun _ => rfl), ⟨(Nat.ne_of_beq_eq_false rfl), (fun _ => rfl), ⟨(Nat.ne_of_beq_eq_false rfl), (fun _ => rfl), ⟨(Nat.ne_of_beq_eq_false rfl), (fun _ => rfl), trivial⟩⟩⟩⟩⟩⟩ ?_
  refine s_iload o dX11_keepBindings_177 0 rfl ?_
  refine s_if_eq (tgt := 214) o dX11_keepBindings_179 (by decide) (rZ hk0) ?_ ?_
  · refine r_to [(0, vA (mg Γ) 21), (1, vI l1), (2, vI l2), (3, vI l3), (4, vI l4)] [1, 2, 3, 4, 5] rfl ?_
    exact st_keepBindings_214 hT o k_220 hk_220 l1 l2 l3 l4 hl1 hl2 hl3 hl4
  · refine s_aload_n o dX11_keepBindings_182 rfl 1 rfl ?_
    refine s_iconst o dX11_keepBindings_183 ?_
    refine r_tpf vI rfl o hT tf_tasks tj_tasks (lw_all_tbl q2632) dX11_keepBindings_184 (r32 rfl) ty_int ?_
    refine s_aload_n o dX11_keepBindings_187 rfl 1 rfl ?_
    refine s_iload o dX11_keepBindings_188 6 rfl ?_
    refine s_aload_n o dX11_keepBindings_190 rfl 1 rfl ?_
    refine s_tga (x := 93) o hT tf_locals ta_locals (lw_all_tbl q2628) dX11_keepBindings_191 ?_
    refine s_aload_n o dX11_keepBindings_194 rfl 1 rfl ?_
    refine r_tgf vI rfl o hT tf_base tj_base (lw_all_tbl q2626) dX11_keepBindings_195 (fun v1 hv1 => ?_)
    refine s_iload_n o dX11_keepBindings_198 rfl 4 rfl ?_
    refine s_iadd o dX11_keepBindings_199 ?_
    refine s_iload o dX11_keepBindings_200 5 rfl ?_
    refine s_iadd o dX11_keepBindings_202 ?_
    refine r_tlald o hT tr_locals (w32_R _) dX11_keepBindings_203 (fun v2 hv2 => ?_)
    refine s_cs (d := d + 3) (As := [vJ v2]) (st := [vI l5, vA (mg Γ) 21]) o (st_of (mg Γ) (d + 3) h v2 hv2) mw_X11_of rfl (Or.inl (lw_all_tbl q3261)) (lw_all_tbl q3262) (wt_I (wt_A wt_0)) rfl dX11_keepBindings_204 rfl (rs := fun r => [vI r, vI l5, vA (mg Γ) 21]) (fun _ => rfl) (fun v3 hv3 => ?_)
    refine s_cv (d := d + 3) (C := "LazyForgeModel") (As := [vI l5, vI v3]) (st := []) o (st_fill (mg Γ) (d + 2) h hT l5 v3 hl5 (hv3 _ rfl)) mw_X11_fill rfl (Or.inl (lw_all_tbl q3316)) (lw_all_tbl qs142) (lw_all_tbl q3318) (fun t => rc_t o hT t) wt_0 rfl dX11_keepBindings_207 rfl (rs := fun _ => []) (fun _ => rfl) (fun _ _ => ?_)
    refine s_aload_n o dX11_keepBindings_210 rfl 1 rfl ?_
    refine s_cv (d := d + 3) (C := "LazyForgeModel") (As := []) (st := []) o (st_doTasks (mg Γ) d h hT) mw_X11_doTasks rfl (Or.inl (lw_all_tbl q3320)) (lw_all_tbl qs143) (lw_all_tbl q3322) (fun t => rc_t o hT t) wt_0 rfl dX11_keepBindings_211 rfl (rs := fun _ => []) (fun _ => rfl) (fun _ _ => ?_)
    refine r_to [(0, vA (mg Γ) 21), (1, vI l1), (2, vI l2), (3, vI l3), (4, vI l4)] [1, 2, 3, 4, 5] rfl ?_
    exact st_keepBindings_214 hT o k_220 hk_220 l1 l2 l3 l4 hl1 hl2 hl3 hl4
noncomputable def t_keepBindings_170 {A : Type} (k_220 : Mo TS A) (l1 : Int) (l2 : Int) (l3 : Int) (l4 : Int) (l5 : Int) : Mo TS ((Int × Int × Int × Int) ⊕ A) :=
  t_keepBindings_175 k_220 l1 l2 l3 l4 l5 1
theorem st_keepBindings_170 {Γ : Gm} {h : CH} {d : Nat} (hT : HT h) (o : Ok Γ "LazyForgeModel" cX11_keepBindings 9 (Option.none : Option Jvm.ClassFile.FieldType) (d + 4)) {A : Type} {K : A → TS → Prop}  (k_220 : Mo TS A) (hk_220 : Sx Γ (fun t => (h, t)) K 220 [] [] (k_220)) (l1 : Int) (l2 : Int) (l3 : Int) (l4 : Int) (l5 : Int) (hl1 : R32 l1) (hl2 : R32 l2) (hl3 : R32 l3) (hl4 : R32 l4) (hl5 : R32 l5) : Sx Γ (fun t => (h, t)) (KL Γ (fun t => (h, t)) okt_keepBindings_125 K 125 (lvt_keepBindings_125 Γ) []) 170 [(0, vA (mg Γ) 21), (1, vI l1), (2, vI l2), (3, vI l3), (4, vI l4), (5, vI l5)] [] (t_keepBindings_170 k_220 l1 l2 l3 l4 l5) := by
  unfold t_keepBindings_170
  refine s_iconst o dX11_keepBindings_170 ?_
  refine s_goto (tgt := 175) o dX11_keepBindings_171 (by decide) ?_
  exact st_keepBindings_175 hT o k_220 hk_220 l1 l2 l3 l4 l5 1 hl1 hl2 hl3 hl4 hl5 (Or.inr rfl)
noncomputable def t_keepBindings_125b {A : Type} (k_220 : Mo TS A) (l1 : Int) (l2 : Int) (l3 : Int) (l4 : Int) : Mo TS ((Int × Int × Int × Int) ⊕ A) :=
  if l2 ≤ l4 then
    lo k_220
  else
    bnd (gs 111) fun v1 =>
    if ¬ v1 = 0 then
      lo k_220
    else
      bnd (t_child l1 l4) fun v2 =>
      bnd (rd 64 7000 v2) fun v3 =>
      if v3 = 13 then
        t_keepBindings_170 k_220 l1 l2 l3 l4 v2
      else
        bnd (t_plain v2) fun v4 =>
        if 0 ≤ v4 then
          t_keepBindings_175 k_220 l1 l2 l3 l4 v2 0
        else
          t_keepBindings_170 k_220 l1 l2 l3 l4 v2
theorem st_keepBindings_125b {Γ : Gm} {h : CH} {d : Nat} (hT : HT h) (o : Ok Γ "LazyForgeModel" cX11_keepBindings 9 (Option.none : Option Jvm.ClassFile.FieldType) (d + 4)) {A : Type} {K : A → TS → Prop} (k_220 : Mo TS A) (hk_220 : Sx Γ (fun t => (h, t)) K 220 [] [] (k_220)) (l1 : Int) (l2 : Int) (l3 : Int) (l4 : Int) (hl1 : R32 l1) (hl2 : R32 l2) (hl3 : R32 l3) (hl4 : R32 l4) : Sx Γ (fun t => (h, t)) (KL Γ (fun t => (h, t)) okt_keepBindings_125 K 125 (lvt_keepBindings_125 Γ) []) 125 [(0, vA (mg Γ) 21), (1, vI l1), (2, vI l2), (3, vI l3), (4, vI l4)] [] (t_keepBindings_125b k_220 l1 l2 l3 l4) := by
  unfold t_keepBindings_125b
  refine s_iload o dX11_keepBindings_125 4 rfl ?_
  refine s_iload_n o dX11_keepBindings_127 rfl 2 rfl ?_
  refine s_icmp_ge (tgt := 220) o dX11_keepBindings_128 (by decide) hl4 hl2 ?_ ?_
  · refine r_to [] [] rfl ?_
    exact s_lo hk_220
  · refine s_aload_n o dX11_keepBindings_131 rfl 0 rfl ?_
    refine r_tgf vI rfl o hT tf_how tj_how (lw_all_tbl q2615) dX11_keepBindings_132 (fun v1 hv1 => ?_)
    refine s_if_ne (tgt := 220) o dX11_keepBindings_135 (by decide) hv1 ?_ ?_
    · refine r_to [] [] rfl ?_
      exact s_lo hk_220
    · refine s_aload_n o dX11_keepBindings_138 rfl 0 rfl ?_
      refine s_iload_n o dX11_keepBindings_139 rfl 1 rfl ?_
      refine s_iload o dX11_keepBindings_140 4 rfl ?_
      refine s_cv (d := d + 3) (C := "LazyForgeModel") (As := [vI l1, vI l4]) (st := []) o (st_child (mg Γ) (d + 3) h hT l1 l4 hl1 hl4) mw_X11_child rfl (Or.inl (lw_all_tbl q3189)) (lw_all_tbl qs115) (lw_all_tbl q3191) (fun t => rc_t o hT t) wt_0 rfl dX11_keepBindings_142 rfl (rs := fun r => [vI r]) (fun _ => rfl) (fun v2 hv2 => ?_)
      refine r_istore o dX11_keepBindings_145 rfl ⟨(Nat.ne_of_beq_eq_false rfl), (fun _ => (vA_cat (mg Γ) 21)), ⟨(Nat.ne_of_beq_eq_false rfl), (fun _ => rfl), ⟨(Nat.ne_of_beq_eq_false rfl), (fun _ => rfl), ⟨(Nat.ne_of_beq_eq_false rfl), (fun _ => rfl), ⟨(Nat.ne_of_beq_eq_false rfl), (fun _ => rfl), trivial⟩⟩⟩⟩⟩ ?_
      refine s_aload_n o dX11_keepBindings_147 rfl 1 rfl ?_
      refine s_tga (x := 58) o hT tf_liftKinds ta_liftKinds (lw_all_tbl q2568) dX11_keepBindings_148 ?_
      refine s_iload o dX11_keepBindings_151 0 rfl ?_
      refine r_tiald o hT tr_liftKinds (hv2 _ rfl) dX11_keepBindings_153 (fun v3 hv3 => ?_)
      refine s_bipush o dX11_keepBindings_154 rfl ?_
      refine s_icmp_eq (tgt := 170) o dX11_keepBindings_156 (by decide) hv3 (r32 rfl) ?_ ?_
      · refine r_to [(0, vA (mg Γ) 21), (1, vI l1), (2, vI l2), (3, vI l3), (4, vI l4), (5, vI v2)] [1, 2, 3, 4, 5, 0] rfl ?_
        exact st_keepBindings_170 hT o k_220 hk_220 l1 l2 l3 l4 v2 hl1 hl2 hl3 hl4 (hv2 _ rfl)
      · refine s_aload_n o dX11_keepBindings_159 rfl 1 rfl ?_
        refine s_iload o dX11_keepBindings_160 0 rfl ?_
        refine s_cv (d := d + 3) (C := "LazyForgeModel") (As := [vI v2]) (st := []) o (st_plain (mg Γ) (d + 2) h hT v2 (hv2 _ rfl)) mw_X11_plain rfl (Or.inl (lw_all_tbl q3301)) (lw_all_tbl qs139) (lw_all_tbl q3303) (fun t => rc_t o hT t) wt_0 rfl dX11_keepBindings_162 rfl (rs := fun r => [vJ r]) (fun _ => rfl) (fun v4 hv4 => ?_)
        refine s_lconst (x := 0) o dX11_keepBindings_165 rfl ?_
        refine s_lcmp_ge (tgt := 174) o dX11_keepBindings_166 dX11_keepBindings_167 (by decide) (hv4 _ rfl) (r64 rfl) ?_ ?_
        · refine s_iconst o dX11_keepBindings_174 ?_
          refine r_to [(0, vA (mg Γ) 21), (1, vI l1), (2, vI l2), (3, vI l3), (4, vI l4), (5, vI v2)] [1, 2, 3, 4, 5, 0] rfl ?_
          exact st_keepBindings_175 hT o k_220 hk_220 l1 l2 l3 l4 v2 0 hl1 hl2 hl3 hl4 (hv2 _ rfl) (Or.inl rfl)
        · refine r_to [(0, vA (mg Γ) 21), (1, vI l1), (2, vI l2), (3, vI l3), (4, vI l4), (5, vI v2)] [1, 2, 3, 4, 5, 0] rfl ?_
          exact st_keepBindings_170 hT o k_220 hk_220 l1 l2 l3 l4 v2 hl1 hl2 hl3 hl4 (hv2 _ rfl)
noncomputable def t_keepBindings_125 {A : Type} (k_220 : Mo TS A) (l1 : Int) (l2 : Int) (l3 : Int) (l4 : Int) : Mo TS A := Loop (fun x => t_keepBindings_125b k_220 x.1 x.2.1 x.2.2.1 x.2.2.2) (l1, l2, l3, l4)
theorem st_keepBindings_125 {Γ : Gm} {h : CH} {d : Nat} (hT : HT h) (o : Ok Γ "LazyForgeModel" cX11_keepBindings 9 (Option.none : Option Jvm.ClassFile.FieldType) (d + 4)) {A : Type} {K : A → TS → Prop} (k_220 : Mo TS A) (hk_220 : Sx Γ (fun t => (h, t)) K 220 [] [] (k_220)) (l1 : Int) (l2 : Int) (l3 : Int) (l4 : Int) (hl1 : R32 l1) (hl2 : R32 l2) (hl3 : R32 l3) (hl4 : R32 l4) : Sx Γ (fun t => (h, t)) K 125 [(0, vA (mg Γ) 21), (1, vI l1), (2, vI l2), (3, vI l3), (4, vI l4)] [] (t_keepBindings_125 k_220 l1 l2 l3 l4) :=
  s_loop okt_keepBindings_125 (lvt_keepBindings_125 Γ) (fun x hx => st_keepBindings_125b hT o k_220 hk_220 x.1 x.2.1 x.2.2.1 x.2.2.2 hx.1 hx.2.1 hx.2.2.1 hx.2.2.2) (x := (l1, l2, l3, l4)) ⟨hl1, hl2, hl3, hl4⟩
abbrev okt_keepBindings_17 (x : Int × Int × Int × Int) : Prop := R32 x.1 ∧ R32 x.2.1 ∧ R32 x.2.2.1 ∧ R32 x.2.2.2
abbrev lvt_keepBindings_17 (Γ : Gm) (x : Int × Int × Int × Int) : List (Nat × Value) := [(0, vA (mg Γ) 21), (1, vI x.1), (2, vI x.2.1), (3, vI x.2.2.1), (4, vI x.2.2.2)]
noncomputable def t_keepBindings_115 {A : Type} (k_122 : Int → Int → Int → Mo TS A) (l1 : Int) (l2 : Int) (l3 : Int) (l4 : Int) (k0 : Int) (k1 : Int) : Mo TS ((Int × Int × Int × Int) ⊕ A) :=
  bnd (wr 124 193000 k1 k0) fun _ =>
  pr (.inl (l1, l2, l3, (w32 (l4 + 1))))
theorem st_keepBindings_115 {Γ : Gm} {h : CH} {d : Nat} (hT : HT h) (o : Ok Γ "LazyForgeModel" cX11_keepBindings 9 (Option.none : Option Jvm.ClassFile.FieldType) (d + 4)) {A : Type} {K : A → TS → Prop}  (k_122 : Int → Int → Int → Mo TS A) (hk_122 : ∀ (l1 : Int) (l2 : Int) (l3 : Int), R32 l1 → R32 l2 → R32 l3 → Sx Γ (fun t => (h, t)) K 122 [(0, vA (mg Γ) 21), (1, vI l1), (2, vI l2), (3, vI l3)] [] (k_122 l1 l2 l3)) (l1 : Int) (l2 : Int) (l3 : Int) (l4 : Int) (k0 : Int) (k1 : Int) (hl1 : R32 l1) (hl2 : R32 l2) (hl3 : R32 l3) (hl4 : R32 l4) (hk0 : R64 k0) (hk1 : R32 k1) : Sx Γ (fun t => (h, t)) (KL Γ (fun t => (h, t)) okt_keepBindings_17 K 17 (lvt_keepBindings_17 Γ) []) 115 [(0, vA (mg Γ) 21), (1, vI l1), (2, vI l2), (3, vI l3), (4, vI l4)] [vJ k0, vI k1, vA (mg Γ) 93] (t_keepBindings_115 k_122 l1 l2 l3 l4 k0 k1) := by
  unfold t_keepBindings_115
  refine r_tlast o hT tr_locals hk1 hk0 dX11_keepBindings_115 ?_
  refine r_iinc (j := 4) o dX11_keepBindings_116 rfl rfl [(0, vA (mg Γ) 21), (1, vI l1), (2, vI l2), (3, vI l3)] [0, 1, 2, 3] rfl ⟨(Nat.ne_of_beq_eq_false rfl), (fun _ => (vA_cat (mg Γ) 21)), ⟨(Nat.ne_of_beq_eq_false rfl), (fun _ => rfl), ⟨(Nat.ne_of_beq_eq_false rfl), (fun _ => rfl), ⟨(Nat.ne_of_beq_eq_false rfl), (fun _ => rfl), trivial⟩⟩⟩⟩ ?_
  refine s_goto (tgt := 17) o dX11_keepBindings_119 (by decide) ?_
  refine r_to [(0, vA (mg Γ) 21), (1, vI l1), (2, vI l2), (3, vI l3), (4, vI (w32 (l4 + 1)))] [1, 2, 3, 4, 0] rfl ?_
  exact s_back (⟨hl1, hl2, hl3, (w32_R _)⟩) rfl
noncomputable def t_keepBindings_82 {A : Type} (k_122 : Int → Int → Int → Mo TS A) (l1 : Int) (l2 : Int) (l3 : Int) (l4 : Int) (l6 : Int) (k0 : Int) : Mo TS ((Int × Int × Int × Int) ⊕ A) :=
  bnd (gs 122) fun v1 =>
  if 0 ≤ l6 then
    t_keepBindings_115 k_122 l1 l2 l3 l4 l6 (w32 ((w32 (v1 + l3)) + l4))
  else
    bnd (t_value 3 k0) fun v2 =>
    t_keepBindings_115 k_122 l1 l2 l3 l4 v2 (w32 ((w32 (v1 + l3)) + l4))
theorem st_keepBindings_82 {Γ : Gm} {h : CH} {d : Nat} (hT : HT h) (o : Ok Γ "LazyForgeModel" cX11_keepBindings 9 (Option.none : Option Jvm.ClassFile.FieldType) (d + 4)) {A : Type} {K : A → TS → Prop}  (k_122 : Int → Int → Int → Mo TS A) (hk_122 : ∀ (l1 : Int) (l2 : Int) (l3 : Int), R32 l1 → R32 l2 → R32 l3 → Sx Γ (fun t => (h, t)) K 122 [(0, vA (mg Γ) 21), (1, vI l1), (2, vI l2), (3, vI l3)] [] (k_122 l1 l2 l3)) (l1 : Int) (l2 : Int) (l3 : Int) (l4 : Int) (l6 : Int) (k0 : Int) (hl1 : R32 l1) (hl2 : R32 l2) (hl3 : R32 l3) (hl4 : R32 l4) (hl6 : R64 l6) (hk0 : R32 k0) : Sx Γ (fun t => (h, t)) (KL Γ (fun t => (h, t)) okt_keepBindings_17 K 17 (lvt_keepBindings_17 Γ) []) 82 [(0, vA (mg Γ) 21), (1, vI l1), (2, vI l2), (3, vI l3), (4, vI l4), (6, vJ l6)] [vI k0] (t_keepBindings_82 k_122 l1 l2 l3 l4 l6 k0) := by
  unfold t_keepBindings_82
  refine r_istore o dX11_keepBindings_82 rfl ⟨(Nat.ne_of_beq_eq_false rfl), (fun _ => (vA_cat (mg Γ) 21)), ⟨(Nat.ne_of_beq_eq_false rfl), (fun _ => rfl), ⟨(Nat.ne_of_beq_eq_false rfl), (fun _ => rfl), ⟨(Nat.ne_of_beq_eq_false rfl), (fun _ => rfl), ⟨(Nat.ne_of_beq_eq_false rfl), (fun _ => rfl), ⟨(Nat.ne_of_beq_eq_false rfl), (fun e => absurd e (Nat.ne_of_beq_eq_false rfl)), trivial⟩⟩⟩⟩⟩⟩ ?_
  refine s_aload_n o dX11_keepBindings_84 rfl 1 rfl ?_
  refine s_tga (x := 93) o hT tf_locals ta_locals (lw_all_tbl q2628) dX11_keepBindings_85 ?_
  refine s_aload_n o dX11_keepBindings_88 rfl 1 rfl ?_
  refine r_tgf vI rfl o hT tf_base tj_base (lw_all_tbl q2626) dX11_keepBindings_89 (fun v1 hv1 => ?_)
  refine s_iload_n o dX11_keepBindings_92 rfl 4 rfl ?_
  refine s_iadd o dX11_keepBindings_93 ?_
  refine s_iload o dX11_keepBindings_94 5 rfl ?_
  refine s_iadd o dX11_keepBindings_96 ?_
  refine s_lload o dX11_keepBindings_97 6 rfl ?_
  refine s_lconst (x := 0) o dX11_keepBindings_99 rfl ?_
  refine s_lcmp_ge (tgt := 113) o dX11_keepBindings_100 dX11_keepBindings_101 (by decide) hl6 (r64 rfl) ?_ ?_
  · refine s_lload o dX11_keepBindings_113 6 rfl ?_
    refine r_to [(0, vA (mg Γ) 21), (1, vI l1), (2, vI l2), (3, vI l3), (4, vI l4)] [1, 2, 3, 4, 5] rfl ?_
    exact st_keepBindings_115 hT o k_122 hk_122 l1 l2 l3 l4 l6 (w32 ((w32 (v1 + l3)) + l4)) hl1 hl2 hl3 hl4 hl6 (w32_R _)
  · refine s_iconst o dX11_keepBindings_104 ?_
    refine s_iload o dX11_keepBindings_105 0 rfl ?_
    refine s_cs (d := d + 3) (As := [vI 3, vI k0]) (st := [vI (w32 ((w32 (v1 + l3)) + l4)), vA (mg Γ) 93]) o (st_value (mg Γ) (d + 3) h 3 k0 (r32 rfl) hk0) mw_X11_value rfl (Or.inl (lw_all_tbl q3242)) (lw_all_tbl q3243) (wt_I (wt_A wt_0)) rfl dX11_keepBindings_107 rfl (rs := fun r => [vJ r, vI (w32 ((w32 (v1 + l3)) + l4)), vA (mg Γ) 93]) (fun _ => rfl) (fun v2 hv2 => ?_)
    refine s_goto (tgt := 115) o dX11_keepBindings_110 (by decide) ?_
    refine r_to [(0, vA (mg Γ) 21), (1, vI l1), (2, vI l2), (3, vI l3), (4, vI l4)] [1, 2, 3, 4, 5] rfl ?_
    exact st_keepBindings_115 hT o k_122 hk_122 l1 l2 l3 l4 v2 (w32 ((w32 (v1 + l3)) + l4)) hl1 hl2 hl3 hl4 (hv2 _ rfl) (w32_R _)
noncomputable def t_keepBindings_63 {A : Type} (k_122 : Int → Int → Int → Mo TS A) (l1 : Int) (l2 : Int) (l3 : Int) (l4 : Int) (l5 : Int) (k0 : Int) : Mo TS ((Int × Int × Int × Int) ⊕ A) :=
  if 0 ≤ k0 then
    t_keepBindings_82 k_122 l1 l2 l3 l4 k0 0
  else
    bnd (t_make l5) fun v1 =>
    t_keepBindings_82 k_122 l1 l2 l3 l4 k0 v1
theorem st_keepBindings_63 {Γ : Gm} {h : CH} {d : Nat} (hT : HT h) (o : Ok Γ "LazyForgeModel" cX11_keepBindings 9 (Option.none : Option Jvm.ClassFile.FieldType) (d + 4)) {A : Type} {K : A → TS → Prop}  (k_122 : Int → Int → Int → Mo TS A) (hk_122 : ∀ (l1 : Int) (l2 : Int) (l3 : Int), R32 l1 → R32 l2 → R32 l3 → Sx Γ (fun t => (h, t)) K 122 [(0, vA (mg Γ) 21), (1, vI l1), (2, vI l2), (3, vI l3)] [] (k_122 l1 l2 l3)) (l1 : Int) (l2 : Int) (l3 : Int) (l4 : Int) (l5 : Int) (k0 : Int) (hl1 : R32 l1) (hl2 : R32 l2) (hl3 : R32 l3) (hl4 : R32 l4) (hl5 : R32 l5) (hk0 : R64 k0) : Sx Γ (fun t => (h, t)) (KL Γ (fun t => (h, t)) okt_keepBindings_17 K 17 (lvt_keepBindings_17 Γ) []) 63 [(0, vA (mg Γ) 21), (1, vI l1), (2, vI l2), (3, vI l3), (4, vI l4), (5, vI l5)] [vJ k0] (t_keepBindings_63 k_122 l1 l2 l3 l4 l5 k0) := by
  unfold t_keepBindings_63
  refine r_lstore o dX11_keepBindings_63 rfl ⟨(Nat.ne_of_beq_eq_false rfl), (Nat.ne_of_beq_eq_false rfl), (fun _ => (vA_cat (mg Γ) 21)), ⟨(Nat.ne_of_beq_eq_false rfl), (Nat.ne_of_beq_eq_false rfl), (fun _ => rfl), ⟨(Nat.ne_of_beq_eq_false rfl), (Nat.ne_of_beq_eq_false rfl), (fun _ => rfl), ⟨(Nat.ne_of_beq_eq_false rfl), (Nat.ne_of_beq_eq_false rfl), (fun _ => rfl), ⟨(Nat.ne_of_beq_eq_false rfl), (Nat.ne_of_beq_eq_false rfl), (fun _ => rfl), ⟨(Nat.ne_of_beq_eq_false rfl), (Nat.ne_of_beq_eq_false rfl), (fun _ => rfl), trivial⟩⟩⟩⟩⟩⟩ ?_
  refine s_lload o dX11_keepBindings_65 0 rfl ?_
  refine s_lconst (x := 0) o dX11_keepBindings_67 rfl ?_
  refine s_lcmp_ge (tgt := 81) o dX11_keepBindings_68 dX11_keepBindings_69 (by decide) hk0 (r64 rfl) ?_ ?_
  · refine s_iconst o dX11_keepBindings_81 ?_
    refine r_to [(0, vA (mg Γ) 21), (1, vI l1), (2, vI l2), (3, vI l3), (4, vI l4), (6, vJ k0)] [1, 2, 3, 4, 5, 0] rfl ?_
    exact st_keepBindings_82 hT o k_122 hk_122 l1 l2 l3 l4 k0 0 hl1 hl2 hl3 hl4 hk0 (r32 rfl)
  · refine s_aload_n o dX11_keepBindings_72 rfl 1 rfl ?_
    refine s_iload o dX11_keepBindings_73 6 rfl ?_
    refine s_cv (d := d + 3) (C := "LazyForgeModel") (As := [vI l5]) (st := []) o (st_make (mg Γ) (d + 1) h hT l5 hl5) mw_X11_make rfl (Or.inl (lw_all_tbl q3305)) (lw_all_tbl qs140) (lw_all_tbl q3307) (fun t => rc_t o hT t) wt_0 rfl dX11_keepBindings_75 rfl (rs := fun r => [vI r]) (fun _ => rfl) (fun v1 hv1 => ?_)
    refine s_goto (tgt := 82) o dX11_keepBindings_78 (by decide) ?_
    refine r_to [(0, vA (mg Γ) 21), (1, vI l1), (2, vI l2), (3, vI l3), (4, vI l4), (6, vJ k0)] [1, 2, 3, 4, 5, 0] rfl ?_
    exact st_keepBindings_82 hT o k_122 hk_122 l1 l2 l3 l4 k0 v1 hl1 hl2 hl3 hl4 hk0 (hv1 _ rfl)
noncomputable def t_keepBindings_17b {A : Type} (k_122 : Int → Int → Int → Mo TS A) (l1 : Int) (l2 : Int) (l3 : Int) (l4 : Int) : Mo TS ((Int × Int × Int × Int) ⊕ A) :=
  if l2 ≤ l4 then
    lo (k_122 l1 l2 l3)
  else
    bnd (gs 111) fun v1 =>
    if ¬ v1 = 0 then
      lo (k_122 l1 l2 l3)
    else
      bnd (t_child l1 l4) fun v2 =>
      bnd (rd 64 7000 v2) fun v3 =>
      if ¬ v3 = 13 then
        bnd (t_plain v2) fun v4 =>
        t_keepBindings_63 k_122 l1 l2 l3 l4 v2 v4
      else
        t_keepBindings_63 k_122 l1 l2 l3 l4 v2 (-1)
theorem st_keepBindings_17b {Γ : Gm} {h : CH} {d : Nat} (hT : HT h) (o : Ok Γ "LazyForgeModel" cX11_keepBindings 9 (Option.none : Option Jvm.ClassFile.FieldType) (d + 4)) {A : Type} {K : A → TS → Prop} (k_122 : Int → Int → Int → Mo TS A) (hk_122 : ∀ (l1 : Int) (l2 : Int) (l3 : Int), R32 l1 → R32 l2 → R32 l3 → Sx Γ (fun t => (h, t)) K 122 [(0, vA (mg Γ) 21), (1, vI l1), (2, vI l2), (3, vI l3)] [] (k_122 l1 l2 l3)) (l1 : Int) (l2 : Int) (l3 : Int) (l4 : Int) (hl1 : R32 l1) (hl2 : R32 l2) (hl3 : R32 l3) (hl4 : R32 l4) : Sx Γ (fun t => (h, t)) (KL Γ (fun t => (h, t)) okt_keepBindings_17 K 17 (lvt_keepBindings_17 Γ) []) 17 [(0, vA (mg Γ) 21), (1, vI l1), (2, vI l2), (3, vI l3), (4, vI l4)] [] (t_keepBindings_17b k_122 l1 l2 l3 l4) := by
  unfold t_keepBindings_17b
  refine s_iload o dX11_keepBindings_17 4 rfl ?_
  refine s_iload_n o dX11_keepBindings_19 rfl 2 rfl ?_
  refine s_icmp_ge (tgt := 122) o dX11_keepBindings_20 (by decide) hl4 hl2 ?_ ?_
  · refine r_to [(0, vA (mg Γ) 21), (1, vI l1), (2, vI l2), (3, vI l3)] [0, 1, 2, 3] rfl ?_
    exact s_lo (hk_122 l1 l2 l3 hl1 hl2 hl3)
  · refine s_aload_n o dX11_keepBindings_23 rfl 0 rfl ?_
    refine r_tgf vI rfl o hT tf_how tj_how (lw_all_tbl q2615) dX11_keepBindings_24 (fun v1 hv1 => ?_)
    refine s_if_ne (tgt := 122) o dX11_keepBindings_27 (by decide) hv1 ?_ ?_
    · refine r_to [(0, vA (mg Γ) 21), (1, vI l1), (2, vI l2), (3, vI l3)] [0, 1, 2, 3] rfl ?_
      exact s_lo (hk_122 l1 l2 l3 hl1 hl2 hl3)
    · refine s_aload_n o dX11_keepBindings_30 rfl 0 rfl ?_
      refine s_iload_n o dX11_keepBindings_31 rfl 1 rfl ?_
      refine s_iload o dX11_keepBindings_32 4 rfl ?_
      refine s_cv (d := d + 3) (C := "LazyForgeModel") (As := [vI l1, vI l4]) (st := []) o (st_child (mg Γ) (d + 3) h hT l1 l4 hl1 hl4) mw_X11_child rfl (Or.inl (lw_all_tbl q3189)) (lw_all_tbl qs115) (lw_all_tbl q3191) (fun t => rc_t o hT t) wt_0 rfl dX11_keepBindings_34 rfl (rs := fun r => [vI r]) (fun _ => rfl) (fun v2 hv2 => ?_)
      refine r_istore o dX11_keepBindings_37 rfl ⟨(Nat.ne_of_beq_eq_false rfl), (fun _ => (vA_cat (mg Γ) 21)), ⟨(Nat.ne_of_beq_eq_false rfl), (fun _ => rfl), ⟨(Nat.ne_of_beq_eq_false rfl), (fun _ => rfl), ⟨(Nat.ne_of_beq_eq_false rfl), (fun _ => rfl), ⟨(Nat.ne_of_beq_eq_false rfl), (fun _ => rfl), trivial⟩⟩⟩⟩⟩ ?_
      refine s_aload_n o dX11_keepBindings_39 rfl 1 rfl ?_
      refine s_tga (x := 58) o hT tf_liftKinds ta_liftKinds (lw_all_tbl q2568) dX11_keepBindings_40 ?_
      refine s_iload o dX11_keepBindings_43 0 rfl ?_
      refine r_tiald o hT tr_liftKinds (hv2 _ rfl) dX11_keepBindings_45 (fun v3 hv3 => ?_)
      refine s_bipush o dX11_keepBindings_46 rfl ?_
      refine s_icmp_ne (tgt := 57) o dX11_keepBindings_48 (by decide) hv3 (r32 rfl) ?_ ?_
      · refine s_aload_n o dX11_keepBindings_57 rfl 1 rfl ?_
        refine s_iload o dX11_keepBindings_58 0 rfl ?_
        refine s_cv (d := d + 3) (C := "LazyForgeModel") (As := [vI v2]) (st := []) o (st_plain (mg Γ) (d + 2) h hT v2 (hv2 _ rfl)) mw_X11_plain rfl (Or.inl (lw_all_tbl q3301)) (lw_all_tbl qs139) (lw_all_tbl q3303) (fun t => rc_t o hT t) wt_0 rfl dX11_keepBindings_60 rfl (rs := fun r => [vJ r]) (fun _ => rfl) (fun v4 hv4 => ?_)
        refine r_to [(0, vA (mg Γ) 21), (1, vI l1), (2, vI l2), (3, vI l3), (4, vI l4), (5, vI v2)] [1, 2, 3, 4, 5, 0] rfl ?_
        exact st_keepBindings_63 hT o k_122 hk_122 l1 l2 l3 l4 v2 v4 hl1 hl2 hl3 hl4 (hv2 _ rfl) (hv4 _ rfl)
      · refine s_ldc2 (n := -1) o dX11_keepBindings_51 (lw_all_tbl q3188) rfl ?_
        refine s_goto (tgt := 63) o dX11_keepBindings_54 (by decide) ?_
        refine r_to [(0, vA (mg Γ) 21), (1, vI l1), (2, vI l2), (3, vI l3), (4, vI l4), (5, vI v2)] [1, 2, 3, 4, 5, 0] rfl ?_
        exact st_keepBindings_63 hT o k_122 hk_122 l1 l2 l3 l4 v2 (-1) hl1 hl2 hl3 hl4 (hv2 _ rfl) (r64 rfl)
noncomputable def t_keepBindings_17 {A : Type} (k_122 : Int → Int → Int → Mo TS A) (l1 : Int) (l2 : Int) (l3 : Int) (l4 : Int) : Mo TS A := Loop (fun x => t_keepBindings_17b k_122 x.1 x.2.1 x.2.2.1 x.2.2.2) (l1, l2, l3, l4)
theorem st_keepBindings_17 {Γ : Gm} {h : CH} {d : Nat} (hT : HT h) (o : Ok Γ "LazyForgeModel" cX11_keepBindings 9 (Option.none : Option Jvm.ClassFile.FieldType) (d + 4)) {A : Type} {K : A → TS → Prop} (k_122 : Int → Int → Int → Mo TS A) (hk_122 : ∀ (l1 : Int) (l2 : Int) (l3 : Int), R32 l1 → R32 l2 → R32 l3 → Sx Γ (fun t => (h, t)) K 122 [(0, vA (mg Γ) 21), (1, vI l1), (2, vI l2), (3, vI l3)] [] (k_122 l1 l2 l3)) (l1 : Int) (l2 : Int) (l3 : Int) (l4 : Int) (hl1 : R32 l1) (hl2 : R32 l2) (hl3 : R32 l3) (hl4 : R32 l4) : Sx Γ (fun t => (h, t)) K 17 [(0, vA (mg Γ) 21), (1, vI l1), (2, vI l2), (3, vI l3), (4, vI l4)] [] (t_keepBindings_17 k_122 l1 l2 l3 l4) :=
  s_loop okt_keepBindings_17 (lvt_keepBindings_17 Γ) (fun x hx => st_keepBindings_17b hT o k_122 hk_122 x.1 x.2.1 x.2.2.1 x.2.2.2 hx.1 hx.2.1 hx.2.2.1 hx.2.2.2) (x := (l1, l2, l3, l4)) ⟨hl1, hl2, hl3, hl4⟩
noncomputable def t_keepBindings (l1 : Int) : Mo TS Int :=
  bnd (rd 65 7000 l1) fun v1 =>
  bnd (rd 68 7000 l1) fun v2 =>
  t_keepBindings_17
    (fun v3 v4 v5 => t_keepBindings_125
    (pr 0) v3 v4 v5 0) l1 v1 v2 0
theorem st_keepBindings (g : gC) (d : Nat) (h : CH) (hT : HT h) (l1 : Int) (hl1 : R32 l1) : SF g yX11_keepBindings (Cond.code yX11_keepBindings cX11_keepBindings 9 (Option.none : Option Jvm.ClassFile.FieldType)) (Option.none : Option Jvm.ClassFile.FieldType) (d + 4) [vA g 21, vI l1] (fun t => (h, t)) (t_keepBindings l1) := by
  refine SF.of (lv := [(0, vA g 21), (1, vI l1)]) (by decide) (wt_A (wt_I wt_0)) rfl (by simp only [la_A, la_I, la_J, la_0]) (fun Γ hg hnm o => ?_)
  subst hg
  have o : Ok Γ "LazyForgeModel" cX11_keepBindings 9 (Option.none : Option Jvm.ClassFile.FieldType) (d + 4) := o
  unfold t_keepBindings
  refine s_aload_n o dX11_keepBindings_0 rfl 0 rfl ?_
  refine s_tga (x := 59) o hT tf_liftValues ta_liftValues (lw_all_tbl q2569) dX11_keepBindings_1 ?_
  refine s_iload_n o dX11_keepBindings_4 rfl 1 rfl ?_
  refine r_tiald o hT tr_liftValues hl1 dX11_keepBindings_5 (fun v1 hv1 => ?_)
  refine r_istore_n o dX11_keepBindings_6 rfl rfl ⟨(Nat.ne_of_beq_eq_false rfl), (fun _ => (vA_cat (mg Γ) 21)), ⟨(Nat.ne_of_beq_eq_false rfl), (fun _ => rfl), trivial⟩⟩ ?_
  refine s_aload_n o dX11_keepBindings_7 rfl 1 rfl ?_
  refine s_tga (x := 62) o hT tf_liftVariables ta_liftVariables (lw_all_tbl q2572) dX11_keepBindings_8 ?_
  refine s_iload_n o dX11_keepBindings_11 rfl 2 rfl ?_
  refine r_tiald o hT tr_liftVariables hl1 dX11_keepBindings_12 (fun v2 hv2 => ?_)
  refine r_istore_n o dX11_keepBindings_13 rfl rfl ⟨(Nat.ne_of_beq_eq_false rfl), (fun _ => rfl), ⟨(Nat.ne_of_beq_eq_false rfl), (fun _ => (vA_cat (mg Γ) 21)), ⟨(Nat.ne_of_beq_eq_false rfl), (fun _ => rfl), trivial⟩⟩⟩ ?_
  refine s_iconst o dX11_keepBindings_14 ?_
  refine r_istore o dX11_keepBindings_15 rfl ⟨(Nat.ne_of_beq_eq_false rfl), (fun _ => rfl), ⟨(Nat.ne_of_beq_eq_false rfl), (fun _ => rfl), ⟨(Nat.ne_of_beq_eq_false rfl), (fun _ => (vA_cat (mg Γ) 21)), ⟨(Nat.ne_of_beq_eq_false rfl), (fun _ => rfl), trivial⟩⟩⟩⟩ ?_
  refine r_to [(0, vA (mg Γ) 21), (1, vI l1), (2, vI v1), (3, vI v2), (4, vI 0)] [3, 4, 2, 1, 0] rfl ?_
  refine st_keepBindings_17 hT o _ ?_ l1 v1 v2 0 hl1 hv1 hv2 (r32 rfl)
  · intro v3 v4 v5 hv3 hv4 hv5
    refine s_iconst o dX11_keepBindings_122 ?_
    refine r_istore o dX11_keepBindings_123 rfl ⟨(Nat.ne_of_beq_eq_false rfl), (fun _ => (vA_cat (mg Γ) 21)), ⟨(Nat.ne_of_beq_eq_false rfl), (fun _ => rfl), ⟨(Nat.ne_of_beq_eq_false rfl), (fun _ => rfl), ⟨(Nat.ne_of_beq_eq_false rfl), (fun _ => rfl), trivial⟩⟩⟩⟩ ?_
    refine r_to [(0, vA (mg Γ) 21), (1, vI v3), (2, vI v4), (3, vI v5), (4, vI 0)] [1, 2, 3, 4, 0] rfl ?_
    refine st_keepBindings_125 hT o _ ?_ v3 v4 v5 0 hv3 hv4 hv5 (r32 rfl)
    · exact s_vret o rfl dX11_keepBindings_220 (fun _ hh => hh)
theorem dX11_around_0 : decode cX11_around 0 = .ok (.iload_n 2, 1) := by decide +kernel
theorem dX11_around_1 : decode cX11_around 1 = .ok (.aload_n 0, 1) := by decide +kernel
theorem dX11_around_2 : decode cX11_around 2 = .ok (.getfield 128, 3) := by decide +kernel
theorem dX11_around_5 : decode cX11_around 5 = .ok (.iload_n 1, 1) := by decide +kernel
theorem dX11_around_6 : decode cX11_around 6 = .ok (.iaload, 1) := by decide +kernel
theorem dX11_around_7 : decode cX11_around 7 = .ok (.if_icmp .ne 7, 3) := by decide +kernel
theorem dX11_around_10 : decode cX11_around 10 = .ok (.iconst 1, 1) := by decide +kernel
theorem dX11_around_11 : decode cX11_around 11 = .ok (.goto 4, 3) := by decide +kernel
theorem dX11_around_14 : decode cX11_around 14 = .ok (.iconst 0, 1) := by decide +kernel
theorem dX11_around_15 : decode cX11_around 15 = .ok (.istore_n 3, 1) := by decide +kernel
theorem dX11_around_16 : decode cX11_around 16 = .ok (.aload_n 0, 1) := by decide +kernel
theorem dX11_around_17 : decode cX11_around 17 = .ok (.getfield 119, 3) := by decide +kernel
theorem dX11_around_20 : decode cX11_around 20 = .ok (.iload_n 1, 1) := by decide +kernel
theorem dX11_around_21 : decode cX11_around 21 = .ok (.iaload, 1) := by decide +kernel
theorem dX11_around_22 : decode cX11_around 22 = .ok (.tableswitch 332 0 7 #[46, 332, 332, 152, 332, 253, 332, 289], 46) := by decide +kernel
theorem dX11_around_68 : decode cX11_around 68 = .ok (.iload_n 3, 1) := by decide +kernel
theorem dX11_around_69 : decode cX11_around 69 = .ok (.ifCond .eq 12, 3) := by decide +kernel
theorem dX11_around_72 : decode cX11_around 72 = .ok (.aload_n 0, 1) := by decide +kernel
theorem dX11_around_73 : decode cX11_around 73 = .ok (.bipush 41, 2) := by decide +kernel
theorem dX11_around_75 : decode cX11_around 75 = .ok (.invokevirtual 783, 3) := by decide +kernel
theorem dX11_around_78 : decode cX11_around 78 = .ok (.goto 300, 3) := by decide +kernel
theorem dX11_around_81 : decode cX11_around 81 = .ok (.iload_n 2, 1) := by decide +kernel
theorem dX11_around_82 : decode cX11_around 82 = .ok (.aload_n 0, 1) := by decide +kernel
theorem dX11_around_83 : decode cX11_around 83 = .ok (.getfield 122, 3) := by decide +kernel
theorem dX11_around_86 : decode cX11_around 86 = .ok (.iload_n 1, 1) := by decide +kernel
theorem dX11_around_87 : decode cX11_around 87 = .ok (.iaload, 1) := by decide +kernel
theorem dX11_around_88 : decode cX11_around 88 = .ok (.if_icmp .ne 22, 3) := by decide +kernel
theorem dX11_around_91 : decode cX11_around 91 = .ok (.aload_n 0, 1) := by decide +kernel
theorem dX11_around_92 : decode cX11_around 92 = .ok (.bipush 32, 2) := by decide +kernel
theorem dX11_around_94 : decode cX11_around 94 = .ok (.bipush 105, 2) := by decide +kernel
theorem dX11_around_96 : decode cX11_around 96 = .ok (.bipush 110, 2) := by decide +kernel
theorem dX11_around_98 : decode cX11_around 98 = .ok (.bipush 32, 2) := by decide +kernel
theorem dX11_around_100 : decode cX11_around 100 = .ok (.iconst 0, 1) := by decide +kernel
theorem dX11_around_101 : decode cX11_around 101 = .ok (.invokestatic 257, 3) := by decide +kernel
theorem dX11_around_104 : decode cX11_around 104 = .ok (.invokevirtual 789, 3) := by decide +kernel
theorem dX11_around_107 : decode cX11_around 107 = .ok (.goto 271, 3) := by decide +kernel
theorem dX11_around_110 : decode cX11_around 110 = .ok (.aload_n 0, 1) := by decide +kernel
theorem dX11_around_111 : decode cX11_around 111 = .ok (.iload_n 2, 1) := by decide +kernel
theorem dX11_around_112 : decode cX11_around 112 = .ok (.ifCond .ne 19, 3) := by decide +kernel
theorem dX11_around_115 : decode cX11_around 115 = .ok (.bipush 40, 2) := by decide +kernel
theorem dX11_around_117 : decode cX11_around 117 = .ok (.bipush 108, 2) := by decide +kernel
theorem dX11_around_119 : decode cX11_around 119 = .ok (.bipush 101, 2) := by decide +kernel
theorem dX11_around_121 : decode cX11_around 121 = .ok (.bipush 116, 2) := by decide +kernel
theorem dX11_around_123 : decode cX11_around 123 = .ok (.bipush 32, 2) := by decide +kernel
theorem dX11_around_125 : decode cX11_around 125 = .ok (.invokestatic 257, 3) := by decide +kernel
theorem dX11_around_128 : decode cX11_around 128 = .ok (.goto 13, 3) := by decide +kernel
theorem dX11_around_131 : decode cX11_around 131 = .ok (.bipush 44, 2) := by decide +kernel
theorem dX11_around_133 : decode cX11_around 133 = .ok (.bipush 32, 2) := by decide +kernel
theorem dX11_around_135 : decode cX11_around 135 = .ok (.iconst 0, 1) := by decide +kernel
theorem dX11_around_136 : decode cX11_around 136 = .ok (.iconst 0, 1) := by decide +kernel
theorem dX11_around_137 : decode cX11_around 137 = .ok (.iconst 0, 1) := by decide +kernel
theorem dX11_around_138 : decode cX11_around 138 = .ok (.invokestatic 257, 3) := by decide +kernel
theorem dX11_around_141 : decode cX11_around 141 = .ok (.invokevirtual 789, 3) := by decide +kernel
theorem dX11_around_144 : decode cX11_around 144 = .ok (.aload_n 0, 1) := by decide +kernel
theorem dX11_around_145 : decode cX11_around 145 = .ok (.aload_n 0, 1) := by decide +kernel
theorem dX11_around_146 : decode cX11_around 146 = .ok (.getfield 131, 3) := by decide +kernel
theorem dX11_around_149 : decode cX11_around 149 = .ok (.iload_n 1, 1) := by decide +kernel
theorem dX11_around_150 : decode cX11_around 150 = .ok (.iaload, 1) := by decide +kernel
theorem dX11_around_151 : decode cX11_around 151 = .ok (.iload_n 2, 1) := by decide +kernel
theorem dX11_around_152 : decode cX11_around 152 = .ok (.iadd, 1) := by decide +kernel
theorem dX11_around_153 : decode cX11_around 153 = .ok (.invokevirtual 792, 3) := by decide +kernel
theorem dX11_around_156 : decode cX11_around 156 = .ok (.aload_n 0, 1) := by decide +kernel
theorem dX11_around_157 : decode cX11_around 157 = .ok (.bipush 32, 2) := by decide +kernel
theorem dX11_around_159 : decode cX11_around 159 = .ok (.bipush 61, 2) := by decide +kernel
theorem dX11_around_161 : decode cX11_around 161 = .ok (.bipush 32, 2) := by decide +kernel
theorem dX11_around_163 : decode cX11_around 163 = .ok (.iconst 0, 1) := by decide +kernel
theorem dX11_around_164 : decode cX11_around 164 = .ok (.iconst 0, 1) := by decide +kernel
theorem dX11_around_165 : decode cX11_around 165 = .ok (.invokestatic 257, 3) := by decide +kernel
theorem dX11_around_168 : decode cX11_around 168 = .ok (.invokevirtual 789, 3) := by decide +kernel
theorem dX11_around_171 : decode cX11_around 171 = .ok (.goto 207, 3) := by decide +kernel
theorem dX11_around_174 : decode cX11_around 174 = .ok (.iload_n 3, 1) := by decide +kernel
theorem dX11_around_175 : decode cX11_around 175 = .ok (.ifCond .eq 20, 3) := by decide +kernel
theorem dX11_around_178 : decode cX11_around 178 = .ok (.aload_n 0, 1) := by decide +kernel
theorem dX11_around_179 : decode cX11_around 179 = .ok (.bipush 125, 2) := by decide +kernel
theorem dX11_around_181 : decode cX11_around 181 = .ok (.bipush 41, 2) := by decide +kernel
theorem dX11_around_183 : decode cX11_around 183 = .ok (.iconst 0, 1) := by decide +kernel
theorem dX11_around_184 : decode cX11_around 184 = .ok (.iconst 0, 1) := by decide +kernel
theorem dX11_around_185 : decode cX11_around 185 = .ok (.iconst 0, 1) := by decide +kernel
theorem dX11_around_186 : decode cX11_around 186 = .ok (.invokestatic 257, 3) := by decide +kernel
theorem dX11_around_189 : decode cX11_around 189 = .ok (.invokevirtual 789, 3) := by decide +kernel
theorem dX11_around_192 : decode cX11_around 192 = .ok (.goto 186, 3) := by decide +kernel
theorem dX11_around_195 : decode cX11_around 195 = .ok (.iload_n 2, 1) := by decide +kernel
theorem dX11_around_196 : decode cX11_around 196 = .ok (.ifCond .ne 29, 3) := by decide +kernel
theorem dX11_around_199 : decode cX11_around 199 = .ok (.aload_n 0, 1) := by decide +kernel
theorem dX11_around_200 : decode cX11_around 200 = .ok (.bipush 40, 2) := by decide +kernel
theorem dX11_around_202 : decode cX11_around 202 = .ok (.bipush 99, 2) := by decide +kernel
theorem dX11_around_204 : decode cX11_around 204 = .ok (.bipush 97, 2) := by decide +kernel
theorem dX11_around_206 : decode cX11_around 206 = .ok (.bipush 115, 2) := by decide +kernel
theorem dX11_around_208 : decode cX11_around 208 = .ok (.bipush 101, 2) := by decide +kernel
theorem dX11_around_210 : decode cX11_around 210 = .ok (.invokestatic 257, 3) := by decide +kernel
theorem dX11_around_213 : decode cX11_around 213 = .ok (.invokevirtual 789, 3) := by decide +kernel
theorem dX11_around_216 : decode cX11_around 216 = .ok (.aload_n 0, 1) := by decide +kernel
theorem dX11_around_217 : decode cX11_around 217 = .ok (.bipush 32, 2) := by decide +kernel
theorem dX11_around_219 : decode cX11_around 219 = .ok (.invokevirtual 783, 3) := by decide +kernel
theorem dX11_around_222 : decode cX11_around 222 = .ok (.goto 156, 3) := by decide +kernel
theorem dX11_around_225 : decode cX11_around 225 = .ok (.aload_n 0, 1) := by decide +kernel
theorem dX11_around_226 : decode cX11_around 226 = .ok (.iload_n 2, 1) := by decide +kernel
theorem dX11_around_227 : decode cX11_around 227 = .ok (.iconst 1, 1) := by decide +kernel
theorem dX11_around_228 : decode cX11_around 228 = .ok (.if_icmp .ne 19, 3) := by decide +kernel
theorem dX11_around_231 : decode cX11_around 231 = .ok (.bipush 32, 2) := by decide +kernel
theorem dX11_around_233 : decode cX11_around 233 = .ok (.bipush 111, 2) := by decide +kernel
theorem dX11_around_235 : decode cX11_around 235 = .ok (.bipush 102, 2) := by decide +kernel
theorem dX11_around_237 : decode cX11_around 237 = .ok (.bipush 32, 2) := by decide +kernel
theorem dX11_around_239 : decode cX11_around 239 = .ok (.bipush 123, 2) := by decide +kernel
theorem dX11_around_241 : decode cX11_around 241 = .ok (.invokestatic 257, 3) := by decide +kernel
theorem dX11_around_244 : decode cX11_around 244 = .ok (.goto 13, 3) := by decide +kernel
theorem dX11_around_247 : decode cX11_around 247 = .ok (.bipush 59, 2) := by decide +kernel
theorem dX11_around_249 : decode cX11_around 249 = .ok (.bipush 32, 2) := by decide +kernel
theorem dX11_around_251 : decode cX11_around 251 = .ok (.iconst 0, 1) := by decide +kernel
theorem dX11_around_252 : decode cX11_around 252 = .ok (.iconst 0, 1) := by decide +kernel
theorem dX11_around_253 : decode cX11_around 253 = .ok (.iconst 0, 1) := by decide +kernel
theorem dX11_around_254 : decode cX11_around 254 = .ok (.invokestatic 257, 3) := by decide +kernel
theorem dX11_around_257 : decode cX11_around 257 = .ok (.invokevirtual 789, 3) := by decide +kernel
theorem dX11_around_260 : decode cX11_around 260 = .ok (.aload_n 0, 1) := by decide +kernel
theorem dX11_around_261 : decode cX11_around 261 = .ok (.aload_n 0, 1) := by decide +kernel
theorem dX11_around_262 : decode cX11_around 262 = .ok (.getfield 125, 3) := by decide +kernel
theorem dX11_around_265 : decode cX11_around 265 = .ok (.iload_n 1, 1) := by decide +kernel
theorem dX11_around_266 : decode cX11_around 266 = .ok (.iaload, 1) := by decide +kernel
theorem dX11_around_267 : decode cX11_around 267 = .ok (.iload_n 2, 1) := by decide +kernel
theorem dX11_around_268 : decode cX11_around 268 = .ok (.iadd, 1) := by decide +kernel
theorem dX11_around_269 : decode cX11_around 269 = .ok (.invokevirtual 795, 3) := by decide +kernel
theorem dX11_around_272 : decode cX11_around 272 = .ok (.goto 106, 3) := by decide +kernel
theorem dX11_around_275 : decode cX11_around 275 = .ok (.iload_n 2, 1) := by decide +kernel
theorem dX11_around_276 : decode cX11_around 276 = .ok (.iconst 1, 1) := by decide +kernel
theorem dX11_around_277 : decode cX11_around 277 = .ok (.if_icmp .ne 16, 3) := by decide +kernel
theorem dX11_around_280 : decode cX11_around 280 = .ok (.aload_n 0, 1) := by decide +kernel
theorem dX11_around_281 : decode cX11_around 281 = .ok (.aload_n 0, 1) := by decide +kernel
theorem dX11_around_282 : decode cX11_around 282 = .ok (.getfield 122, 3) := by decide +kernel
theorem dX11_around_285 : decode cX11_around 285 = .ok (.iload_n 1, 1) := by decide +kernel
theorem dX11_around_286 : decode cX11_around 286 = .ok (.iaload, 1) := by decide +kernel
theorem dX11_around_287 : decode cX11_around 287 = .ok (.invokevirtual 798, 3) := by decide +kernel
theorem dX11_around_290 : decode cX11_around 290 = .ok (.goto 88, 3) := by decide +kernel
theorem dX11_around_293 : decode cX11_around 293 = .ok (.aload_n 0, 1) := by decide +kernel
theorem dX11_around_294 : decode cX11_around 294 = .ok (.iload_n 3, 1) := by decide +kernel
theorem dX11_around_295 : decode cX11_around 295 = .ok (.ifCond .eq 8, 3) := by decide +kernel
theorem dX11_around_298 : decode cX11_around 298 = .ok (.bipush 41, 2) := by decide +kernel
theorem dX11_around_300 : decode cX11_around 300 = .ok (.goto 5, 3) := by decide +kernel
theorem dX11_around_303 : decode cX11_around 303 = .ok (.bipush 40, 2) := by decide +kernel
theorem dX11_around_305 : decode cX11_around 305 = .ok (.invokevirtual 783, 3) := by decide +kernel
theorem dX11_around_308 : decode cX11_around 308 = .ok (.goto 70, 3) := by decide +kernel
theorem dX11_around_311 : decode cX11_around 311 = .ok (.iload_n 2, 1) := by decide +kernel
theorem dX11_around_312 : decode cX11_around 312 = .ok (.ifCond .ne 24, 3) := by decide +kernel
theorem dX11_around_315 : decode cX11_around 315 = .ok (.aload_n 0, 1) := by decide +kernel
theorem dX11_around_316 : decode cX11_around 316 = .ok (.bipush 40, 2) := by decide +kernel
theorem dX11_around_318 : decode cX11_around 318 = .ok (.invokevirtual 783, 3) := by decide +kernel
theorem dX11_around_321 : decode cX11_around 321 = .ok (.aload_n 0, 1) := by decide +kernel
theorem dX11_around_322 : decode cX11_around 322 = .ok (.aload_n 0, 1) := by decide +kernel
theorem dX11_around_323 : decode cX11_around 323 = .ok (.getfield 59, 3) := by decide +kernel
theorem dX11_around_326 : decode cX11_around 326 = .ok (.aload_n 0, 1) := by decide +kernel
theorem dX11_around_327 : decode cX11_around 327 = .ok (.getfield 122, 3) := by decide +kernel
theorem dX11_around_330 : decode cX11_around 330 = .ok (.iload_n 1, 1) := by decide +kernel
theorem dX11_around_331 : decode cX11_around 331 = .ok (.iaload, 1) := by decide +kernel
theorem dX11_around_332 : decode cX11_around 332 = .ok (.laload, 1) := by decide +kernel
theorem dX11_around_333 : decode cX11_around 333 = .ok (.invokevirtual 789, 3) := by decide +kernel
theorem dX11_around_336 : decode cX11_around 336 = .ok (.aload_n 0, 1) := by decide +kernel
theorem dX11_around_337 : decode cX11_around 337 = .ok (.iload_n 3, 1) := by decide +kernel
theorem dX11_around_338 : decode cX11_around 338 = .ok (.ifCond .eq 8, 3) := by decide +kernel
theorem dX11_around_341 : decode cX11_around 341 = .ok (.bipush 41, 2) := by decide +kernel
theorem dX11_around_343 : decode cX11_around 343 = .ok (.goto 5, 3) := by decide +kernel
theorem dX11_around_346 : decode cX11_around 346 = .ok (.bipush 32, 2) := by decide +kernel
theorem dX11_around_348 : decode cX11_around 348 = .ok (.invokevirtual 783, 3) := by decide +kernel
theorem dX11_around_351 : decode cX11_around 351 = .ok (.goto 27, 3) := by decide +kernel
theorem dX11_around_354 : decode cX11_around 354 = .ok (.aload_n 0, 1) := by decide +kernel
theorem dX11_around_355 : decode cX11_around 355 = .ok (.iload_n 3, 1) := by decide +kernel
theorem dX11_around_356 : decode cX11_around 356 = .ok (.ifCond .eq 8, 3) := by decide +kernel
theorem dX11_around_359 : decode cX11_around 359 = .ok (.bipush 41, 2) := by decide +kernel
theorem dX11_around_361 : decode cX11_around 361 = .ok (.goto 14, 3) := by decide +kernel
theorem dX11_around_364 : decode cX11_around 364 = .ok (.iload_n 2, 1) := by decide +kernel
theorem dX11_around_365 : decode cX11_around 365 = .ok (.ifCond .ne 8, 3) := by decide +kernel
theorem dX11_around_368 : decode cX11_around 368 = .ok (.bipush 40, 2) := by decide +kernel
theorem dX11_around_370 : decode cX11_around 370 = .ok (.goto 5, 3) := by decide +kernel
theorem dX11_around_373 : decode cX11_around 373 = .ok (.bipush 32, 2) := by decide +kernel
theorem dX11_around_375 : decode cX11_around 375 = .ok (.invokevirtual 783, 3) := by decide +kernel
theorem dX11_around_378 : decode cX11_around 378 = .ok (.return_, 1) := by decide +kernel
theorem mw_X11_around : MW yX11_around (Cond.code yX11_around cX11_around 4 (Option.none : Option Jvm.ClassFile.FieldType)) cX11_around 4 (Option.none : Option Jvm.ClassFile.FieldType) 2 := ⟨rfl, ⟨(lw_all_tbl q3403), rfl, (lw_all_tbl q173)⟩, rfl, ⟨by decide, by decide⟩, by decide +kernel⟩
noncomputable def t_around_257  (l1 : Int) (l2 : Int) (k0 : Int) : Mo TS Int :=
  bnd (t_signs k0) fun _ =>
  bnd (rd 66 7000 l1) fun v1 =>
  bnd (t_pattern (w32 (v1 + l2))) fun _ =>
  pr 0
theorem st_around_257 {Γ : Gm} {h : CH} {d : Nat} (hT : HT h) (o : Ok Γ "LazyForgeModel" cX11_around 4 (Option.none : Option Jvm.ClassFile.FieldType) (d + 4))   (l1 : Int) (l2 : Int) (k0 : Int) (hl1 : R32 l1) (hl2 : R32 l2) (hk0 : R64 k0) : Sx Γ (fun t => (h, t)) (fun a s => mt Γ = (0, a, ((h, s) : Wd))) 257 [(0, vA (mg Γ) 21), (1, vI l1), (2, vI l2)] [vJ k0, vA (mg Γ) 21] (t_around_257 l1 l2 k0) := by
  unfold t_around_257
  refine s_cv (d := d + 3) (C := "LazyForgeModel") (As := [vJ k0]) (st := []) o (st_signs (mg Γ) (d + 2) h hT k0 hk0) mw_X11_signs rfl (Or.inl (lw_all_tbl q3372)) (lw_all_tbl qs151) (lw_all_tbl q3374) (fun t => rc_t o hT t) wt_0 rfl dX11_around_257 rfl (rs := fun _ => []) (fun _ => rfl) (fun _ _ => ?_)
  refine s_aload_n o dX11_around_260 rfl 0 rfl ?_
  refine s_aload_n o dX11_around_261 rfl 0 rfl ?_
  refine s_tga (x := 60) o hT tf_liftBegins ta_liftBegins (lw_all_tbl q2570) dX11_around_262 ?_
  refine s_iload_n o dX11_around_265 rfl 1 rfl ?_
  refine r_tiald o hT tr_liftBegins hl1 dX11_around_266 (fun v1 hv1 => ?_)
  refine s_iload_n o dX11_around_267 rfl 2 rfl ?_
  refine s_iadd o dX11_around_268 ?_
  refine s_cv (d := d + 3) (C := "LazyForgeModel") (As := [vI (w32 (v1 + l2))]) (st := []) o (st_pattern (mg Γ) d h hT (w32 (v1 + l2)) (w32_R _)) mw_X11_pattern rfl (Or.inl (lw_all_tbl q3404)) (lw_all_tbl qs159) (lw_all_tbl q3406) (fun t => rc_t o hT t) wt_0 rfl dX11_around_269 rfl (rs := fun _ => []) (fun _ => rfl) (fun _ _ => ?_)
  refine s_goto (tgt := 378) o dX11_around_272 (by decide) ?_
  exact s_vret o rfl dX11_around_378 (fun _ hh => hh)
noncomputable def t_around_141  (l1 : Int) (l2 : Int) (k0 : Int) : Mo TS Int :=
  bnd (t_signs k0) fun _ =>
  bnd (rd 68 7000 l1) fun v1 =>
  bnd (t_variable (w32 (v1 + l2))) fun _ =>
  bnd (t_pack 32 61 32 0 0) fun v2 =>
  bnd (t_signs v2) fun _ =>
  pr 0
theorem st_around_141 {Γ : Gm} {h : CH} {d : Nat} (hT : HT h) (o : Ok Γ "LazyForgeModel" cX11_around 4 (Option.none : Option Jvm.ClassFile.FieldType) (d + 4))   (l1 : Int) (l2 : Int) (k0 : Int) (hl1 : R32 l1) (hl2 : R32 l2) (hk0 : R64 k0) : Sx Γ (fun t => (h, t)) (fun a s => mt Γ = (0, a, ((h, s) : Wd))) 141 [(0, vA (mg Γ) 21), (1, vI l1), (2, vI l2)] [vJ k0, vA (mg Γ) 21] (t_around_141 l1 l2 k0) := by
  unfold t_around_141
  refine s_cv (d := d + 3) (C := "LazyForgeModel") (As := [vJ k0]) (st := []) o (st_signs (mg Γ) (d + 2) h hT k0 hk0) mw_X11_signs rfl (Or.inl (lw_all_tbl q3372)) (lw_all_tbl qs151) (lw_all_tbl q3374) (fun t => rc_t o hT t) wt_0 rfl dX11_around_141 rfl (rs := fun _ => []) (fun _ => rfl) (fun _ _ => ?_)
  refine s_aload_n o dX11_around_144 rfl 0 rfl ?_
  refine s_aload_n o dX11_around_145 rfl 0 rfl ?_
  refine s_tga (x := 62) o hT tf_liftVariables ta_liftVariables (lw_all_tbl q2572) dX11_around_146 ?_
  refine s_iload_n o dX11_around_149 rfl 1 rfl ?_
  refine r_tiald o hT tr_liftVariables hl1 dX11_around_150 (fun v1 hv1 => ?_)
  refine s_iload_n o dX11_around_151 rfl 2 rfl ?_
  refine s_iadd o dX11_around_152 ?_
  refine s_cv (d := d + 3) (C := "LazyForgeModel") (As := [vI (w32 (v1 + l2))]) (st := []) o (st_variable (mg Γ) (d + 1) h hT (w32 (v1 + l2)) (w32_R _)) mw_X11_variable rfl (Or.inl (lw_all_tbl q3388)) (lw_all_tbl qs155) (lw_all_tbl q3390) (fun t => rc_t o hT t) wt_0 rfl dX11_around_153 rfl (rs := fun _ => []) (fun _ => rfl) (fun _ _ => ?_)
  refine s_aload_n o dX11_around_156 rfl 0 rfl ?_
  refine s_bipush o dX11_around_157 rfl ?_
  refine s_bipush o dX11_around_159 rfl ?_
  refine s_bipush o dX11_around_161 rfl ?_
  refine s_iconst o dX11_around_163 ?_
  refine s_iconst o dX11_around_164 ?_
  refine s_cs (d := d + 3) (As := [vI 32, vI 61, vI 32, vI 0, vI 0]) (st := [vA (mg Γ) 21]) o (st_pack (mg Γ) (d + 3) h 32 61 32 0 0 (r32 rfl) (r32 rfl) (r32 rfl) (r32 rfl) (r32 rfl)) mw_X11_pack rfl (Or.inl (lw_all_tbl q2929)) (lw_all_tbl q2930) (wt_A wt_0) rfl dX11_around_165 rfl (rs := fun r => [vJ r, vA (mg Γ) 21]) (fun _ => rfl) (fun v2 hv2 => ?_)
  refine s_cv (d := d + 3) (C := "LazyForgeModel") (As := [vJ v2]) (st := []) o (st_signs (mg Γ) (d + 2) h hT v2 (hv2 _ rfl)) mw_X11_signs rfl (Or.inl (lw_all_tbl q3372)) (lw_all_tbl qs151) (lw_all_tbl q3374) (fun t => rc_t o hT t) wt_0 rfl dX11_around_168 rfl (rs := fun _ => []) (fun _ => rfl) (fun _ _ => ?_)
  refine s_goto (tgt := 378) o dX11_around_171 (by decide) ?_
  exact s_vret o rfl dX11_around_378 (fun _ hh => hh)
noncomputable def t_around_348  (k0 : Int) : Mo TS Int :=
  bnd (t_letters k0) fun _ =>
  pr 0
theorem st_around_348 {Γ : Gm} {h : CH} {d : Nat} (hT : HT h) (o : Ok Γ "LazyForgeModel" cX11_around 4 (Option.none : Option Jvm.ClassFile.FieldType) (d + 4))   (k0 : Int) (hk0 : R32 k0) : Sx Γ (fun t => (h, t)) (fun a s => mt Γ = (0, a, ((h, s) : Wd))) 348 [] [vI k0, vA (mg Γ) 21] (t_around_348 k0) := by
  unfold t_around_348
  refine s_cv (d := d + 3) (C := "LazyForgeModel") (As := [vI k0]) (st := []) o (st_letters (mg Γ) (d + 3) h hT k0 hk0) mw_X11_letters rfl (Or.inl (lw_all_tbl q3376)) (lw_all_tbl qs152) (lw_all_tbl q3378) (fun t => rc_t o hT t) wt_0 rfl dX11_around_348 rfl (rs := fun _ => []) (fun _ => rfl) (fun _ _ => ?_)
  refine s_goto (tgt := 378) o dX11_around_351 (by decide) ?_
  exact s_vret o rfl dX11_around_378 (fun _ hh => hh)
noncomputable def t_around_336  (l3 : Int) : Mo TS Int :=
  if l3 = 0 then
    t_around_348 32
  else
    t_around_348 41
theorem st_around_336 {Γ : Gm} {h : CH} {d : Nat} (hT : HT h) (o : Ok Γ "LazyForgeModel" cX11_around 4 (Option.none : Option Jvm.ClassFile.FieldType) (d + 4))   (l3 : Int) (hl3 : rg .boolean l3) : Sx Γ (fun t => (h, t)) (fun a s => mt Γ = (0, a, ((h, s) : Wd))) 336 [(0, vA (mg Γ) 21), (3, vI l3)] [] (t_around_336 l3) := by
  unfold t_around_336
  refine s_aload_n o dX11_around_336 rfl 0 rfl ?_
  refine s_iload_n o dX11_around_337 rfl 1 rfl ?_
  refine s_if_eq (tgt := 346) o dX11_around_338 (by decide) (rZ hl3) ?_ ?_
  · refine s_bipush o dX11_around_346 rfl ?_
    refine r_to [] [] rfl ?_
    exact st_around_348 hT o 32 (r32 rfl)
  · refine s_bipush o dX11_around_341 rfl ?_
    refine s_goto (tgt := 348) o dX11_around_343 (by decide) ?_
    refine r_to [] [] rfl ?_
    exact st_around_348 hT o 41 (r32 rfl)
noncomputable def t_around_305  (k0 : Int) : Mo TS Int :=
  bnd (t_letters k0) fun _ =>
  pr 0
theorem st_around_305 {Γ : Gm} {h : CH} {d : Nat} (hT : HT h) (o : Ok Γ "LazyForgeModel" cX11_around 4 (Option.none : Option Jvm.ClassFile.FieldType) (d + 4))   (k0 : Int) (hk0 : R32 k0) : Sx Γ (fun t => (h, t)) (fun a s => mt Γ = (0, a, ((h, s) : Wd))) 305 [] [vI k0, vA (mg Γ) 21] (t_around_305 k0) := by
  unfold t_around_305
  refine s_cv (d := d + 3) (C := "LazyForgeModel") (As := [vI k0]) (st := []) o (st_letters (mg Γ) (d + 3) h hT k0 hk0) mw_X11_letters rfl (Or.inl (lw_all_tbl q3376)) (lw_all_tbl qs152) (lw_all_tbl q3378) (fun t => rc_t o hT t) wt_0 rfl dX11_around_305 rfl (rs := fun _ => []) (fun _ => rfl) (fun _ _ => ?_)
  refine s_goto (tgt := 378) o dX11_around_308 (by decide) ?_
  exact s_vret o rfl dX11_around_378 (fun _ hh => hh)
noncomputable def t_around_375  (k0 : Int) : Mo TS Int :=
  bnd (t_letters k0) fun _ =>
  pr 0
theorem st_around_375 {Γ : Gm} {h : CH} {d : Nat} (hT : HT h) (o : Ok Γ "LazyForgeModel" cX11_around 4 (Option.none : Option Jvm.ClassFile.FieldType) (d + 4))   (k0 : Int) (hk0 : R32 k0) : Sx Γ (fun t => (h, t)) (fun a s => mt Γ = (0, a, ((h, s) : Wd))) 375 [] [vI k0, vA (mg Γ) 21] (t_around_375 k0) := by
  unfold t_around_375
  refine s_cv (d := d + 3) (C := "LazyForgeModel") (As := [vI k0]) (st := []) o (st_letters (mg Γ) (d + 3) h hT k0 hk0) mw_X11_letters rfl (Or.inl (lw_all_tbl q3376)) (lw_all_tbl qs152) (lw_all_tbl q3378) (fun t => rc_t o hT t) wt_0 rfl dX11_around_375 rfl (rs := fun _ => []) (fun _ => rfl) (fun _ _ => ?_)
  exact s_vret o rfl dX11_around_378 (fun _ hh => hh)
noncomputable def t_around_15  (l1 : Int) (l2 : Int) (k0 : Int) : Mo TS Int :=
  bnd (rd 64 7000 l1) fun v1 =>
  if v1 = 0 then
    if k0 = 0 then
      bnd (rd 65 7000 l1) fun v3 =>
      if ¬ l2 = v3 then
        if ¬ l2 = 0 then
          bnd (t_pack 44 32 0 0 0) fun v4 =>
          t_around_141 l1 l2 v4
        else
          bnd (t_pack 40 108 101 116 32) fun v5 =>
          t_around_141 l1 l2 v5
      else
        bnd (t_pack 32 105 110 32 0) fun v6 =>
        bnd (t_signs v6) fun _ =>
        pr 0
    else
      bnd (t_letters 41) fun _ =>
      pr 0
  else
    if v1 = 3 then
      if k0 = 0 then
        if ¬ l2 = 0 then
          if ¬ l2 = 1 then
            bnd (t_pack 59 32 0 0 0) fun v8 =>
            t_around_257 l1 l2 v8
          else
            bnd (t_pack 32 111 102 32 123) fun v9 =>
            t_around_257 l1 l2 v9
        else
          bnd (t_pack 40 99 97 115 101) fun v10 =>
          bnd (t_signs v10) fun _ =>
          bnd (t_letters 32) fun _ =>
          pr 0
      else
        bnd (t_pack 125 41 0 0 0) fun v11 =>
        bnd (t_signs v11) fun _ =>
        pr 0
    else
      if v1 = 5 then
        if ¬ l2 = 1 then
          if k0 = 0 then
            t_around_305 40
          else
            t_around_305 41
        else
          bnd (rd 65 7000 l1) fun v13 =>
          bnd (t_operation v13) fun _ =>
          pr 0
      else
        if v1 = 7 then
          if ¬ l2 = 0 then
            t_around_336 k0
          else
            bnd (t_letters 40) fun _ =>
            bnd (rd 65 7000 l1) fun v15 =>
            bnd (rd 32 30 v15) fun v16 =>
            bnd (t_signs v16) fun _ =>
            t_around_336 k0
        else
          if k0 = 0 then
            if ¬ l2 = 0 then
              t_around_375 32
            else
              t_around_375 40
          else
            t_around_375 41
theorem st_around_15 {Γ : Gm} {h : CH} {d : Nat} (hT : HT h) (o : Ok Γ "LazyForgeModel" cX11_around 4 (Option.none : Option Jvm.ClassFile.FieldType) (d + 4))   (l1 : Int) (l2 : Int) (k0 : Int) (hl1 : R32 l1) (hl2 : R32 l2) (hk0 : rg .boolean k0) : Sx Γ (fun t => (h, t)) (fun a s => mt Γ = (0, a, ((h, s) : Wd))) 15 [(0, vA (mg Γ) 21), (1, vI l1), (2, vI l2)] [vI k0] (t_around_15 l1 l2 k0) := by
  unfold t_around_15
  refine r_istore_n o dX11_around_15 rfl rfl ⟨(Nat.ne_of_beq_eq_false rfl), (fun _ => (vA_cat (mg Γ) 21)), ⟨(Nat.ne_of_beq_eq_false rfl), (fun _ => rfl), ⟨(Nat.ne_of_beq_eq_false rfl), (fun _ => rfl), trivial⟩⟩⟩ ?_
  refine s_aload_n o dX11_around_16 rfl 1 rfl ?_
  refine s_tga (x := 58) o hT tf_liftKinds ta_liftKinds (lw_all_tbl q2568) dX11_around_17 ?_
  refine s_iload_n o dX11_around_20 rfl 2 rfl ?_
  refine r_tiald o hT tr_liftKinds hl1 dX11_around_21 (fun v1 hv1 => ?_)
  refine s_case (P := True) (fun e1 => ?_) (fun e1 => ?_)
  · refine s_tabE o e1 dX11_around_22 (r32 rfl) rfl rfl (tgt := 68) (by decide) ?_
    refine s_iload_n o dX11_around_68 rfl 0 rfl ?_
    refine s_if_eq (tgt := 81) o dX11_around_69 (by decide) (rZ hk0) ?_ ?_
    · refine s_iload_n o dX11_around_81 rfl 3 rfl ?_
      refine s_aload_n o dX11_around_82 rfl 1 rfl ?_
      refine s_tga (x := 59) o hT tf_liftValues ta_liftValues (lw_all_tbl q2569) dX11_around_83 ?_
      refine s_iload_n o dX11_around_86 rfl 2 rfl ?_
      refine r_tiald o hT tr_liftValues hl1 dX11_around_87 (fun v3 hv3 => ?_)
      refine s_icmp_ne (tgt := 110) o dX11_around_88 (by decide) hl2 hv3 ?_ ?_
      · refine s_aload_n o dX11_around_110 rfl 1 rfl ?_
        refine s_iload_n o dX11_around_111 rfl 3 rfl ?_
        refine s_if_ne (tgt := 131) o dX11_around_112 (by decide) hl2 ?_ ?_
        · refine s_bipush o dX11_around_131 rfl ?_
          refine s_bipush o dX11_around_133 rfl ?_
          refine s_iconst o dX11_around_135 ?_
          refine s_iconst o dX11_around_136 ?_
          refine s_iconst o dX11_around_137 ?_
          refine s_cs (d := d + 3) (As := [vI 44, vI 32, vI 0, vI 0, vI 0]) (st := [vA (mg Γ) 21]) o (st_pack (mg Γ) (d + 3) h 44 32 0 0 0 (r32 rfl) (r32 rfl) (r32 rfl) (r32 rfl) (r32 rfl)) mw_X11_pack rfl (Or.inl (lw_all_tbl q2929)) (lw_all_tbl q2930) (wt_A wt_0) rfl dX11_around_138 rfl (rs := fun r => [vJ r, vA (mg Γ) 21]) (fun _ => rfl) (fun v4 hv4 => ?_)
          refine r_to [(0, vA (mg Γ) 21), (1, vI l1), (2, vI l2)] [1, 2, 3] rfl ?_
          exact st_around_141 hT o l1 l2 v4 hl1 hl2 (hv4 _ rfl)
        · refine s_bipush o dX11_around_115 rfl ?_
          refine s_bipush o dX11_around_117 rfl ?_
          refine s_bipush o dX11_around_119 rfl ?_
          refine s_bipush o dX11_around_121 rfl ?_
          refine s_bipush o dX11_around_123 rfl ?_
          refine s_cs (d := d + 3) (As := [vI 40, vI 108, vI 101, vI 116, vI 32]) (st := [vA (mg Γ) 21]) o (st_pack (mg Γ) (d + 3) h 40 108 101 116 32 (r32 rfl) (r32 rfl) (r32 rfl) (r32 rfl) (r32 rfl)) mw_X11_pack rfl (Or.inl (lw_all_tbl q2929)) (lw_all_tbl q2930) (wt_A wt_0) rfl dX11_around_125 rfl (rs := fun r => [vJ r, vA (mg Γ) 21]) (fun _ => rfl) (fun v5 hv5 => ?_)
          refine s_goto (tgt := 141) o dX11_around_128 (by decide) ?_
          refine r_to [(0, vA (mg Γ) 21), (1, vI l1), (2, vI l2)] [1, 2, 3] rfl ?_
          exact st_around_141 hT o l1 l2 v5 hl1 hl2 (hv5 _ rfl)
      · refine s_aload_n o dX11_around_91 rfl 1 rfl ?_
        refine s_bipush o dX11_around_92 rfl ?_
        refine s_bipush o dX11_around_94 rfl ?_
        refine s_bipush o dX11_around_96 rfl ?_
        refine s_bipush o dX11_around_98 rfl ?_
        refine s_iconst o dX11_around_100 ?_
        refine s_cs (d := d + 3) (As := [vI 32, vI 105, vI 110, vI 32, vI 0]) (st := [vA (mg Γ) 21]) o (st_pack (mg Γ) (d + 3) h 32 105 110 32 0 (r32 rfl) (r32 rfl) (r32 rfl) (r32 rfl) (r32 rfl)) mw_X11_pack rfl (Or.inl (lw_all_tbl q2929)) (lw_all_tbl q2930) (wt_A wt_0) rfl dX11_around_101 rfl (rs := fun r => [vJ r, vA (mg Γ) 21]) (fun _ => rfl) (fun v6 hv6 => ?_)
        refine s_cv (d := d + 3) (C := "LazyForgeModel") (As := [vJ v6]) (st := []) o (st_signs (mg Γ) (d + 2) h hT v6 (hv6 _ rfl)) mw_X11_signs rfl (Or.inl (lw_all_tbl q3372)) (lw_all_tbl qs151) (lw_all_tbl q3374) (fun t => rc_t o hT t) wt_0 rfl dX11_around_104 rfl (rs := fun _ => []) (fun _ => rfl) (fun _ _ => ?_)
        refine s_goto (tgt := 378) o dX11_around_107 (by decide) ?_
        exact s_vret o rfl dX11_around_378 (fun _ hh => hh)
    · refine s_aload_n o dX11_around_72 rfl 1 rfl ?_
      refine s_bipush o dX11_around_73 rfl ?_
      refine s_cv (d := d + 3) (C := "LazyForgeModel") (As := [vI 41]) (st := []) o (st_letters (mg Γ) (d + 3) h hT 41 (r32 rfl)) mw_X11_letters rfl (Or.inl (lw_all_tbl q3376)) (lw_all_tbl qs152) (lw_all_tbl q3378) (fun t => rc_t o hT t) wt_0 rfl dX11_around_75 rfl (rs := fun _ => []) (fun _ => rfl) (fun _ _ => ?_)
      refine s_goto (tgt := 378) o dX11_around_78 (by decide) ?_
      exact s_vret o rfl dX11_around_378 (fun _ hh => hh)
  · refine s_case (P := True) (fun e6 => ?_) (fun e6 => ?_)
    · refine s_tabE o e6 dX11_around_22 (r32 rfl) rfl rfl (tgt := 174) (by decide) ?_
      refine s_iload_n o dX11_around_174 rfl 0 rfl ?_
      refine s_if_eq (tgt := 195) o dX11_around_175 (by decide) (rZ hk0) ?_ ?_
      · refine s_iload_n o dX11_around_195 rfl 3 rfl ?_
        refine s_if_ne (tgt := 225) o dX11_around_196 (by decide) hl2 ?_ ?_
        · refine s_aload_n o dX11_around_225 rfl 1 rfl ?_
          refine s_iload_n o dX11_around_226 rfl 3 rfl ?_
          refine s_iconst o dX11_around_227 ?_
          refine s_icmp_ne (tgt := 247) o dX11_around_228 (by decide) hl2 (r32 rfl) ?_ ?_
          · refine s_bipush o dX11_around_247 rfl ?_
            refine s_bipush o dX11_around_249 rfl ?_
            refine s_iconst o dX11_around_251 ?_
            refine s_iconst o dX11_around_252 ?_
            refine s_iconst o dX11_around_253 ?_
            refine s_cs (d := d + 3) (As := [vI 59, vI 32, vI 0, vI 0, vI 0]) (st := [vA (mg Γ) 21]) o (st_pack (mg Γ) (d + 3) h 59 32 0 0 0 (r32 rfl) (r32 rfl) (r32 rfl) (r32 rfl) (r32 rfl)) mw_X11_pack rfl (Or.inl (lw_all_tbl q2929)) (lw_all_tbl q2930) (wt_A wt_0) rfl dX11_around_254 rfl (rs := fun r => [vJ r, vA (mg Γ) 21]) (fun _ => rfl) (fun v8 hv8 => ?_)
            refine r_to [(0, vA (mg Γ) 21), (1, vI l1), (2, vI l2)] [1, 2, 3] rfl ?_
            exact st_around_257 hT o l1 l2 v8 hl1 hl2 (hv8 _ rfl)
          · refine s_bipush o dX11_around_231 rfl ?_
            refine s_bipush o dX11_around_233 rfl ?_
            refine s_bipush o dX11_around_235 rfl ?_
            refine s_bipush o dX11_around_237 rfl ?_
            refine s_bipush o dX11_around_239 rfl ?_
            refine s_cs (d := d + 3) (As := [vI 32, vI 111, vI 102, vI 32, vI 123]) (st := [vA (mg Γ) 21]) o (st_pack (mg Γ) (d + 3) h 32 111 102 32 123 (r32 rfl) (r32 rfl) (r32 rfl) (r32 rfl) (r32 rfl)) mw_X11_pack rfl (Or.inl (lw_all_tbl q2929)) (lw_all_tbl q2930) (wt_A wt_0) rfl dX11_around_241 rfl (rs := fun r => [vJ r, vA (mg Γ) 21]) (fun _ => rfl) (fun v9 hv9 => ?_)
            refine s_goto (tgt := 257) o dX11_around_244 (by decide) ?_
            refine r_to [(0, vA (mg Γ) 21), (1, vI l1), (2, vI l2)] [1, 2, 3] rfl ?_
            exact st_around_257 hT o l1 l2 v9 hl1 hl2 (hv9 _ rfl)
        · refine s_aload_n o dX11_around_199 rfl 1 rfl ?_
          refine s_bipush o dX11_around_200 rfl ?_
          refine s_bipush o dX11_around_202 rfl ?_
          refine s_bipush o dX11_around_204 rfl ?_
          refine s_bipush o dX11_around_206 rfl ?_
          refine s_bipush o dX11_around_208 rfl ?_
          refine s_cs (d := d + 3) (As := [vI 40, vI 99, vI 97, vI 115, vI 101]) (st := [vA (mg Γ) 21]) o (st_pack (mg Γ) (d + 3) h 40 99 97 115 101 (r32 rfl) (r32 rfl) (r32 rfl) (r32 rfl) (r32 rfl)) mw_X11_pack rfl (Or.inl (lw_all_tbl q2929)) (lw_all_tbl q2930) (wt_A wt_0) rfl dX11_around_210 rfl (rs := fun r => [vJ r, vA (mg Γ) 21]) (fun _ => rfl) (fun v10 hv10 => ?_)
          refine s_cv (d := d + 3) (C := "LazyForgeModel") (As := [vJ v10]) (st := []) o (st_signs (mg Γ) (d + 2) h hT v10 (hv10 _ rfl)) mw_X11_signs rfl (Or.inl (lw_all_tbl q3372)) (lw_all_tbl qs151) (lw_all_tbl q3374) (fun t => rc_t o hT t) wt_0 rfl dX11_around_213 rfl (rs := fun _ => []) (fun _ => rfl) (fun _ _ => ?_)
          refine s_aload_n o dX11_around_216 rfl 1 rfl ?_
          refine s_bipush o dX11_around_217 rfl ?_
          refine s_cv (d := d + 3) (C := "LazyForgeModel") (As := [vI 32]) (st := []) o (st_letters (mg Γ) (d + 3) h hT 32 (r32 rfl)) mw_X11_letters rfl (Or.inl (lw_all_tbl q3376)) (lw_all_tbl qs152) (lw_all_tbl q3378) (fun t => rc_t o hT t) wt_0 rfl dX11_around_219 rfl (rs := fun _ => []) (fun _ => rfl) (fun _ _ => ?_)
          refine s_goto (tgt := 378) o dX11_around_222 (by decide) ?_
          exact s_vret o rfl dX11_around_378 (fun _ hh => hh)
      · refine s_aload_n o dX11_around_178 rfl 1 rfl ?_
        refine s_bipush o dX11_around_179 rfl ?_
        refine s_bipush o dX11_around_181 rfl ?_
        refine s_iconst o dX11_around_183 ?_
        refine s_iconst o dX11_around_184 ?_
        refine s_iconst o dX11_around_185 ?_
        refine s_cs (d := d + 3) (As := [vI 125, vI 41, vI 0, vI 0, vI 0]) (st := [vA (mg Γ) 21]) o (st_pack (mg Γ) (d + 3) h 125 41 0 0 0 (r32 rfl) (r32 rfl) (r32 rfl) (r32 rfl) (r32 rfl)) mw_X11_pack rfl (Or.inl (lw_all_tbl q2929)) (lw_all_tbl q2930) (wt_A wt_0) rfl dX11_around_186 rfl (rs := fun r => [vJ r, vA (mg Γ) 21]) (fun _ => rfl) (fun v11 hv11 => ?_)
        refine s_cv (d := d + 3) (C := "LazyForgeModel") (As := [vJ v11]) (st := []) o (st_signs (mg Γ) (d + 2) h hT v11 (hv11 _ rfl)) mw_X11_signs rfl (Or.inl (lw_all_tbl q3372)) (lw_all_tbl qs151) (lw_all_tbl q3374) (fun t => rc_t o hT t) wt_0 rfl dX11_around_189 rfl (rs := fun _ => []) (fun _ => rfl) (fun _ _ => ?_)
        refine s_goto (tgt := 378) o dX11_around_192 (by decide) ?_
        exact s_vret o rfl dX11_around_378 (fun _ hh => hh)
    · refine s_case (P := True) (fun e11 => ?_) (fun e11 => ?_)
      · refine s_tabE o e11 dX11_around_22 (r32 rfl) rfl rfl (tgt := 275) (by decide) ?_
        refine s_iload_n o dX11_around_275 rfl 3 rfl ?_
        refine s_iconst o dX11_around_276 ?_
        refine s_icmp_ne (tgt := 293) o dX11_around_277 (by decide) hl2 (r32 rfl) ?_ ?_
        · refine s_aload_n o dX11_around_293 rfl 1 rfl ?_
          refine s_iload_n o dX11_around_294 rfl 0 rfl ?_
          refine s_if_eq (tgt := 303) o dX11_around_295 (by decide) (rZ hk0) ?_ ?_
          · refine s_bipush o dX11_around_303 rfl ?_
            refine r_to [] [] rfl ?_
            exact st_around_305 hT o 40 (r32 rfl)
          · refine s_bipush o dX11_around_298 rfl ?_
            refine s_goto (tgt := 305) o dX11_around_300 (by decide) ?_
            refine r_to [] [] rfl ?_
            exact st_around_305 hT o 41 (r32 rfl)
        · refine s_aload_n o dX11_around_280 rfl 1 rfl ?_
          refine s_aload_n o dX11_around_281 rfl 1 rfl ?_
          refine s_tga (x := 59) o hT tf_liftValues ta_liftValues (lw_all_tbl q2569) dX11_around_282 ?_
          refine s_iload_n o dX11_around_285 rfl 2 rfl ?_
          refine r_tiald o hT tr_liftValues hl1 dX11_around_286 (fun v13 hv13 => ?_)
          refine s_cv (d := d + 3) (C := "LazyForgeModel") (As := [vI v13]) (st := []) o (st_operation (mg Γ) (d + 1) h hT v13 hv13) mw_X11_operation rfl (Or.inl (lw_all_tbl q3408)) (lw_all_tbl qs160) (lw_all_tbl q3410) (fun t => rc_t o hT t) wt_0 rfl dX11_around_287 rfl (rs := fun _ => []) (fun _ => rfl) (fun _ _ => ?_)
          refine s_goto (tgt := 378) o dX11_around_290 (by decide) ?_
          exact s_vret o rfl dX11_around_378 (fun _ hh => hh)
      · refine s_case (P := True) (fun e13 => ?_) (fun e13 => ?_)
        · refine s_tabE o e13 dX11_around_22 (r32 rfl) rfl rfl (tgt := 311) (by decide) ?_
          refine s_iload_n o dX11_around_311 rfl 3 rfl ?_
          refine s_if_ne (tgt := 336) o dX11_around_312 (by decide) hl2 ?_ ?_
          · refine r_to [(0, vA (mg Γ) 21), (3, vI k0)] [1, 0] rfl ?_
            exact st_around_336 hT o k0 hk0
          · refine s_aload_n o dX11_around_315 rfl 1 rfl ?_
            refine s_bipush o dX11_around_316 rfl ?_
            refine s_cv (d := d + 3) (C := "LazyForgeModel") (As := [vI 40]) (st := []) o (st_letters (mg Γ) (d + 3) h hT 40 (r32 rfl)) mw_X11_letters rfl (Or.inl (lw_all_tbl q3376)) (lw_all_tbl qs152) (lw_all_tbl q3378) (fun t => rc_t o hT t) wt_0 rfl dX11_around_318 rfl (rs := fun _ => []) (fun _ => rfl) (fun _ _ => ?_)
            refine s_aload_n o dX11_around_321 rfl 1 rfl ?_
            refine s_aload_n o dX11_around_322 rfl 1 rfl ?_
            refine s_tga (x := 38) o hT tf_constructorNames ta_constructorNames (lw_all_tbl q2536) dX11_around_323 ?_
            refine s_aload_n o dX11_around_326 rfl 1 rfl ?_
            refine s_tga (x := 59) o hT tf_liftValues ta_liftValues (lw_all_tbl q2569) dX11_around_327 ?_
            refine s_iload_n o dX11_around_330 rfl 2 rfl ?_
            refine r_tiald o hT tr_liftValues hl1 dX11_around_331 (fun v15 hv15 => ?_)
            refine r_tlald o hT tr_constructorNames hv15 dX11_around_332 (fun v16 hv16 => ?_)
            refine s_cv (d := d + 3) (C := "LazyForgeModel") (As := [vJ v16]) (st := []) o (st_signs (mg Γ) (d + 2) h hT v16 hv16) mw_X11_signs rfl (Or.inl (lw_all_tbl q3372)) (lw_all_tbl qs151) (lw_all_tbl q3374) (fun t => rc_t o hT t) wt_0 rfl dX11_around_333 rfl (rs := fun _ => []) (fun _ => rfl) (fun _ _ => ?_)
            refine r_to [(0, vA (mg Γ) 21), (3, vI k0)] [1, 0] rfl ?_
            exact st_around_336 hT o k0 hk0
        · refine s_split (x := v1) (v := 1) (fun e16 => ?_) (fun e16 => ?_)
          · refine s_tabE o e16 dX11_around_22 (r32 rfl) rfl rfl (tgt := 354) (by decide) ?_
            refine s_aload_n o dX11_around_354 rfl 1 rfl ?_
            refine s_iload_n o dX11_around_355 rfl 0 rfl ?_
            refine s_if_eq (tgt := 364) o dX11_around_356 (by decide) (rZ hk0) ?_ ?_
            · refine s_iload_n o dX11_around_364 rfl 3 rfl ?_
              refine s_if_ne (tgt := 373) o dX11_around_365 (by decide) hl2 ?_ ?_
              · refine s_bipush o dX11_around_373 rfl ?_
                refine r_to [] [] rfl ?_
                exact st_around_375 hT o 32 (r32 rfl)
              · refine s_bipush o dX11_around_368 rfl ?_
                refine s_goto (tgt := 375) o dX11_around_370 (by decide) ?_
                refine r_to [] [] rfl ?_
                exact st_around_375 hT o 40 (r32 rfl)
            · refine s_bipush o dX11_around_359 rfl ?_
              refine s_goto (tgt := 375) o dX11_around_361 (by decide) ?_
              refine r_to [] [] rfl ?_
              exact st_around_375 hT o 41 (r32 rfl)
          · refine s_split (x := v1) (v := 2) (fun e17 => ?_) (fun e17 => ?_)
            · refine s_tabE o e17 dX11_around_22 (r32 rfl) rfl rfl (tgt := 354) (by decide) ?_
              refine s_aload_n o dX11_around_354 rfl 1 rfl ?_
              refine s_iload_n o dX11_around_355 rfl 0 rfl ?_
              refine s_if_eq (tgt := 364) o dX11_around_356 (by decide) (rZ hk0) ?_ ?_
              · refine s_iload_n o dX11_around_364 rfl 3 rfl ?_
                refine s_if_ne (tgt := 373) o dX11_around_365 (by decide) hl2 ?_ ?_
                · refine s_bipush o dX11_around_373 rfl ?_
                  refine r_to [] [] rfl ?_
                  exact st_around_375 hT o 32 (r32 rfl)
                · refine s_bipush o dX11_around_368 rfl ?_
                  refine s_goto (tgt := 375) o dX11_around_370 (by decide) ?_
                  refine r_to [] [] rfl ?_
                  exact st_around_375 hT o 40 (r32 rfl)
              · refine s_bipush o dX11_around_359 rfl ?_
                refine s_goto (tgt := 375) o dX11_around_361 (by decide) ?_
                refine r_to [] [] rfl ?_
                exact st_around_375 hT o 41 (r32 rfl)
            · refine s_split (x := v1) (v := 4) (fun e18 => ?_) (fun e18 => ?_)
              · refine s_tabE o e18 dX11_around_22 (r32 rfl) rfl rfl (tgt := 354) (by decide) ?_
                refine s_aload_n o dX11_around_354 rfl 1 rfl ?_
                refine s_iload_n o dX11_around_355 rfl 0 rfl ?_
                refine s_if_eq (tgt := 364) o dX11_around_356 (by decide) (rZ hk0) ?_ ?_
                · refine s_iload_n o dX11_around_364 rfl 3 rfl ?_
                  refine s_if_ne (tgt := 373) o dX11_around_365 (by decide) hl2 ?_ ?_
                  · refine s_bipush o dX11_around_373 rfl ?_
                    refine r_to [] [] rfl ?_
                    exact st_around_375 hT o 32 (r32 rfl)
                  · refine s_bipush o dX11_around_368 rfl ?_
                    refine s_goto (tgt := 375) o dX11_around_370 (by decide) ?_
                    refine r_to [] [] rfl ?_
                    exact st_around_375 hT o 40 (r32 rfl)
                · refine s_bipush o dX11_around_359 rfl ?_
                  refine s_goto (tgt := 375) o dX11_around_361 (by decide) ?_
                  refine r_to [] [] rfl ?_
                  exact st_around_375 hT o 41 (r32 rfl)
              · refine s_split (x := v1) (v := 6) (fun e19 => ?_) (fun e19 => ?_)
                · refine s_tabE o e19 dX11_around_22 (r32 rfl) rfl rfl (tgt := 354) (by decide) ?_
                  refine s_aload_n o dX11_around_354 rfl 1 rfl ?_
                  refine s_iload_n o dX11_around_355 rfl 0 rfl ?_
                  refine s_if_eq (tgt := 364) o dX11_around_356 (by decide) (rZ hk0) ?_ ?_
                  · refine s_iload_n o dX11_around_364 rfl 3 rfl ?_
                    refine s_if_ne (tgt := 373) o dX11_around_365 (by decide) hl2 ?_ ?_
                    · refine s_bipush o dX11_around_373 rfl ?_
                      refine r_to [] [] rfl ?_
                      exact st_around_375 hT o 32 (r32 rfl)
                    · refine s_bipush o dX11_around_368 rfl ?_
                      refine s_goto (tgt := 375) o dX11_around_370 (by decide) ?_
                      refine r_to [] [] rfl ?_
                      exact st_around_375 hT o 40 (r32 rfl)
                  · refine s_bipush o dX11_around_359 rfl ?_
                    refine s_goto (tgt := 375) o dX11_around_361 (by decide) ?_
                    refine r_to [] [] rfl ?_
                    exact st_around_375 hT o 41 (r32 rfl)
                · refine s_tabOut o dX11_around_22 hv1 (by omega) (tgt := 354) (by decide) ?_
                  refine s_aload_n o dX11_around_354 rfl 1 rfl ?_
                  refine s_iload_n o dX11_around_355 rfl 0 rfl ?_
                  refine s_if_eq (tgt := 364) o dX11_around_356 (by decide) (rZ hk0) ?_ ?_
                  · refine s_iload_n o dX11_around_364 rfl 3 rfl ?_
                    refine s_if_ne (tgt := 373) o dX11_around_365 (by decide) hl2 ?_ ?_
                    · refine s_bipush o dX11_around_373 rfl ?_
                      refine r_to [] [] rfl ?_
                      exact st_around_375 hT o 32 (r32 rfl)
                    · refine s_bipush o dX11_around_368 rfl ?_
                      refine s_goto (tgt := 375) o dX11_around_370 (by decide) ?_
                      refine r_to [] [] rfl ?_
                      exact st_around_375 hT o 40 (r32 rfl)
                  · refine s_bipush o dX11_around_359 rfl ?_
                    refine s_goto (tgt := 375) o dX11_around_361 (by decide) ?_
                    refine r_to [] [] rfl ?_
                    exact st_around_375 hT o 41 (r32 rfl)
noncomputable def t_around (l1 : Int) (l2 : Int) : Mo TS Int :=
  bnd (rd 67 7000 l1) fun v1 =>
  if ¬ l2 = v1 then
    t_around_15 l1 l2 0
  else
    t_around_15 l1 l2 1
theorem st_around (g : gC) (d : Nat) (h : CH) (hT : HT h) (l1 : Int) (l2 : Int) (hl1 : R32 l1) (hl2 : R32 l2) : SF g yX11_around (Cond.code yX11_around cX11_around 4 (Option.none : Option Jvm.ClassFile.FieldType)) (Option.none : Option Jvm.ClassFile.FieldType) (d + 4) [vA g 21, vI l1, vI l2] (fun t => (h, t)) (t_around l1 l2) := by
  refine SF.of (lv := [(0, vA g 21), (1, vI l1), (2, vI l2)]) (by decide) (wt_A (wt_I (wt_I wt_0))) rfl (by simp only [la_A, la_I, la_J, la_0]) (fun Γ hg hnm o => ?_)
  subst hg
  have o : Ok Γ "LazyForgeModel" cX11_around 4 (Option.none : Option Jvm.ClassFile.FieldType) (d + 4) := o
  unfold t_around
  refine s_iload_n o dX11_around_0 rfl 2 rfl ?_
  refine s_aload_n o dX11_around_1 rfl 0 rfl ?_
  refine s_tga (x := 61) o hT tf_liftCounts ta_liftCounts (lw_all_tbl q2571) dX11_around_2 ?_
  refine s_iload_n o dX11_around_5 rfl 1 rfl ?_
  refine r_tiald o hT tr_liftCounts hl1 dX11_around_6 (fun v1 hv1 => ?_)
  refine s_icmp_ne (tgt := 14) o dX11_around_7 (by decide) hl2 hv1 ?_ ?_
  · refine s_iconst o dX11_around_14 ?_
    exact st_around_15 hT o l1 l2 0 hl1 hl2 (Or.inl rfl)
  · refine s_iconst o dX11_around_10 ?_
    refine s_goto (tgt := 15) o dX11_around_11 (by decide) ?_
    exact st_around_15 hT o l1 l2 1 hl1 hl2 (Or.inr rfl)
theorem dX11_readData_0 : decode cX11_readData 0 = .ok (.iconst 1, 1) := by decide +kernel
theorem dX11_readData_1 : decode cX11_readData 1 = .ok (.istore_n 1, 1) := by decide +kernel
theorem dX11_readData_2 : decode cX11_readData 2 = .ok (.iload_n 1, 1) := by decide +kernel
theorem dX11_readData_3 : decode cX11_readData 3 = .ok (.ifCond .eq 182, 3) := by decide +kernel
theorem dX11_readData_6 : decode cX11_readData 6 = .ok (.aload_n 0, 1) := by decide +kernel
theorem dX11_readData_7 : decode cX11_readData 7 = .ok (.getfield 286, 3) := by decide +kernel
theorem dX11_readData_10 : decode cX11_readData 10 = .ok (.iconst 4, 1) := by decide +kernel
theorem dX11_readData_11 : decode cX11_readData 11 = .ok (.if_icmp .ne 26, 3) := by decide +kernel
theorem dX11_readData_14 : decode cX11_readData 14 = .ok (.aload_n 0, 1) := by decide +kernel
theorem dX11_readData_15 : decode cX11_readData 15 = .ok (.aload_n 0, 1) := by decide +kernel
theorem dX11_readData_16 : decode cX11_readData 16 = .ok (.getfield 278, 3) := by decide +kernel
theorem dX11_readData_19 : decode cX11_readData 19 = .ok (.invokevirtual 396, 3) := by decide +kernel
theorem dX11_readData_22 : decode cX11_readData 22 = .ok (.ifCond .lt 15, 3) := by decide +kernel
theorem dX11_readData_25 : decode cX11_readData 25 = .ok (.aload_n 0, 1) := by decide +kernel
theorem dX11_readData_26 : decode cX11_readData 26 = .ok (.iconst 2, 1) := by decide +kernel
theorem dX11_readData_27 : decode cX11_readData 27 = .ok (.aload_n 0, 1) := by decide +kernel
theorem dX11_readData_28 : decode cX11_readData 28 = .ok (.getfield 275, 3) := by decide +kernel
theorem dX11_readData_31 : decode cX11_readData 31 = .ok (.invokevirtual 317, 3) := by decide +kernel
theorem dX11_readData_34 : decode cX11_readData 34 = .ok (.goto 29, 3) := by decide +kernel
theorem dX11_readData_37 : decode cX11_readData 37 = .ok (.aload_n 0, 1) := by decide +kernel
theorem dX11_readData_38 : decode cX11_readData 38 = .ok (.getfield 286, 3) := by decide +kernel
theorem dX11_readData_41 : decode cX11_readData 41 = .ok (.iconst 4, 1) := by decide +kernel
theorem dX11_readData_42 : decode cX11_readData 42 = .ok (.if_icmp .ne 21, 3) := by decide +kernel
theorem dX11_readData_45 : decode cX11_readData 45 = .ok (.aload_n 0, 1) := by decide +kernel
theorem dX11_readData_46 : decode cX11_readData 46 = .ok (.getfield 348, 3) := by decide +kernel
theorem dX11_readData_49 : decode cX11_readData 49 = .ok (.bipush 30, 2) := by decide +kernel
theorem dX11_readData_51 : decode cX11_readData 51 = .ok (.if_icmp .ne 12, 3) := by decide +kernel
theorem dX11_readData_54 : decode cX11_readData 54 = .ok (.aload_n 0, 1) := by decide +kernel
theorem dX11_readData_55 : decode cX11_readData 55 = .ok (.iconst 4, 1) := by decide +kernel
theorem dX11_readData_56 : decode cX11_readData 56 = .ok (.aload_n 0, 1) := by decide +kernel
theorem dX11_readData_57 : decode cX11_readData 57 = .ok (.getfield 275, 3) := by decide +kernel
theorem dX11_readData_60 : decode cX11_readData 60 = .ok (.invokevirtual 317, 3) := by decide +kernel
theorem dX11_readData_63 : decode cX11_readData 63 = .ok (.aload_n 0, 1) := by decide +kernel
theorem dX11_readData_64 : decode cX11_readData 64 = .ok (.getfield 278, 3) := by decide +kernel
theorem dX11_readData_67 : decode cX11_readData 67 = .ok (.lstore_n 2, 1) := by decide +kernel
theorem dX11_readData_68 : decode cX11_readData 68 = .ok (.aload_n 0, 1) := by decide +kernel
theorem dX11_readData_69 : decode cX11_readData 69 = .ok (.aload_n 0, 1) := by decide +kernel
theorem dX11_readData_70 : decode cX11_readData 70 = .ok (.getfield 286, 3) := by decide +kernel
theorem dX11_readData_73 : decode cX11_readData 73 = .ok (.iconst 4, 1) := by decide +kernel
theorem dX11_readData_74 : decode cX11_readData 74 = .ok (.if_icmp .ne 7, 3) := by decide +kernel
theorem dX11_readData_77 : decode cX11_readData 77 = .ok (.iconst 1, 1) := by decide +kernel
theorem dX11_readData_78 : decode cX11_readData 78 = .ok (.goto 4, 3) := by decide +kernel
theorem dX11_readData_81 : decode cX11_readData 81 = .ok (.iconst 0, 1) := by decide +kernel
theorem dX11_readData_82 : decode cX11_readData 82 = .ok (.invokevirtual 359, 3) := by decide +kernel
theorem dX11_readData_85 : decode cX11_readData 85 = .ok (.aload_n 0, 1) := by decide +kernel
theorem dX11_readData_86 : decode cX11_readData 86 = .ok (.getfield 295, 3) := by decide +kernel
theorem dX11_readData_89 : decode cX11_readData 89 = .ok (.istore 4, 2) := by decide +kernel
theorem dX11_readData_91 : decode cX11_readData 91 = .ok (.aload_n 0, 1) := by decide +kernel
theorem dX11_readData_92 : decode cX11_readData 92 = .ok (.aload_n 0, 1) := by decide +kernel
theorem dX11_readData_93 : decode cX11_readData 93 = .ok (.getfield 286, 3) := by decide +kernel
theorem dX11_readData_96 : decode cX11_readData 96 = .ok (.iconst 2, 1) := by decide +kernel
theorem dX11_readData_97 : decode cX11_readData 97 = .ok (.if_icmp .ne 13, 3) := by decide +kernel
theorem dX11_readData_100 : decode cX11_readData 100 = .ok (.iload 4, 2) := by decide +kernel
theorem dX11_readData_102 : decode cX11_readData 102 = .ok (.iconst 4, 1) := by decide +kernel
theorem dX11_readData_103 : decode cX11_readData 103 = .ok (.if_icmp .gt 7, 3) := by decide +kernel
theorem dX11_readData_106 : decode cX11_readData 106 = .ok (.iconst 1, 1) := by decide +kernel
theorem dX11_readData_107 : decode cX11_readData 107 = .ok (.goto 4, 3) := by decide +kernel
theorem dX11_readData_110 : decode cX11_readData 110 = .ok (.iconst 0, 1) := by decide +kernel
theorem dX11_readData_111 : decode cX11_readData 111 = .ok (.invokevirtual 359, 3) := by decide +kernel
theorem dX11_readData_114 : decode cX11_readData 114 = .ok (.aload_n 0, 1) := by decide +kernel
theorem dX11_readData_115 : decode cX11_readData 115 = .ok (.getfield 311, 3) := by decide +kernel
theorem dX11_readData_118 : decode cX11_readData 118 = .ok (.ifCond .ne 34, 3) := by decide +kernel
theorem dX11_readData_121 : decode cX11_readData 121 = .ok (.aload_n 0, 1) := by decide +kernel
theorem dX11_readData_122 : decode cX11_readData 122 = .ok (.getfield 59, 3) := by decide +kernel
theorem dX11_readData_125 : decode cX11_readData 125 = .ok (.aload_n 0, 1) := by decide +kernel
theorem dX11_readData_126 : decode cX11_readData 126 = .ok (.getfield 348, 3) := by decide +kernel
theorem dX11_readData_129 : decode cX11_readData 129 = .ok (.lload_n 2, 1) := by decide +kernel
theorem dX11_readData_130 : decode cX11_readData 130 = .ok (.lastore, 1) := by decide +kernel
theorem dX11_readData_131 : decode cX11_readData 131 = .ok (.aload_n 0, 1) := by decide +kernel
theorem dX11_readData_132 : decode cX11_readData 132 = .ok (.getfield 62, 3) := by decide +kernel
theorem dX11_readData_135 : decode cX11_readData 135 = .ok (.aload_n 0, 1) := by decide +kernel
theorem dX11_readData_136 : decode cX11_readData 136 = .ok (.getfield 348, 3) := by decide +kernel
theorem dX11_readData_139 : decode cX11_readData 139 = .ok (.iload 4, 2) := by decide +kernel
theorem dX11_readData_141 : decode cX11_readData 141 = .ok (.iastore, 1) := by decide +kernel
theorem dX11_readData_142 : decode cX11_readData 142 = .ok (.aload_n 0, 1) := by decide +kernel
theorem dX11_readData_143 : decode cX11_readData 143 = .ok (.dup, 1) := by decide +kernel
theorem dX11_readData_144 : decode cX11_readData 144 = .ok (.getfield 348, 3) := by decide +kernel
theorem dX11_readData_147 : decode cX11_readData 147 = .ok (.iconst 1, 1) := by decide +kernel
theorem dX11_readData_148 : decode cX11_readData 148 = .ok (.iadd, 1) := by decide +kernel
theorem dX11_readData_149 : decode cX11_readData 149 = .ok (.putfield 348, 3) := by decide +kernel
theorem dX11_readData_152 : decode cX11_readData 152 = .ok (.aload_n 0, 1) := by decide +kernel
theorem dX11_readData_153 : decode cX11_readData 153 = .ok (.getfield 311, 3) := by decide +kernel
theorem dX11_readData_156 : decode cX11_readData 156 = .ok (.ifCond .ne 16, 3) := by decide +kernel
theorem dX11_readData_159 : decode cX11_readData 159 = .ok (.aload_n 0, 1) := by decide +kernel
theorem dX11_readData_160 : decode cX11_readData 160 = .ok (.bipush 124, 2) := by decide +kernel
theorem dX11_readData_162 : decode cX11_readData 162 = .ok (.invokevirtual 383, 3) := by decide +kernel
theorem dX11_readData_165 : decode cX11_readData 165 = .ok (.ifCond .eq 7, 3) := by decide +kernel
theorem dX11_readData_168 : decode cX11_readData 168 = .ok (.iconst 1, 1) := by decide +kernel
theorem dX11_readData_169 : decode cX11_readData 169 = .ok (.goto 4, 3) := by decide +kernel
theorem dX11_readData_172 : decode cX11_readData 172 = .ok (.iconst 0, 1) := by decide +kernel
theorem dX11_readData_173 : decode cX11_readData 173 = .ok (.istore_n 1, 1) := by decide +kernel
theorem dX11_readData_174 : decode cX11_readData 174 = .ok (.iload_n 1, 1) := by decide +kernel
theorem dX11_readData_175 : decode cX11_readData 175 = .ok (.ifCond .eq 7, 3) := by decide +kernel
theorem dX11_readData_178 : decode cX11_readData 178 = .ok (.aload_n 0, 1) := by decide +kernel
theorem dX11_readData_179 : decode cX11_readData 179 = .ok (.invokevirtual 321, 3) := by decide +kernel
theorem dX11_readData_182 : decode cX11_readData 182 = .ok (.goto (-180), 3) := by decide +kernel
theorem dX11_readData_185 : decode cX11_readData 185 = .ok (.aload_n 0, 1) := by decide +kernel
theorem dX11_readData_186 : decode cX11_readData 186 = .ok (.aload_n 0, 1) := by decide +kernel
theorem dX11_readData_187 : decode cX11_readData 187 = .ok (.bipush 59, 2) := by decide +kernel
theorem dX11_readData_189 : decode cX11_readData 189 = .ok (.invokevirtual 383, 3) := by decide +kernel
theorem dX11_readData_192 : decode cX11_readData 192 = .ok (.invokevirtual 359, 3) := by decide +kernel
theorem dX11_readData_195 : decode cX11_readData 195 = .ok (.return_, 1) := by decide +kernel
theorem mw_X11_readData : MW yX11_readData (Cond.code yX11_readData cX11_readData 5 (Option.none : Option Jvm.ClassFile.FieldType)) cX11_readData 5 (Option.none : Option Jvm.ClassFile.FieldType) 0 := ⟨rfl, ⟨(lw_all_tbl q2970), rfl, (lw_all_tbl q173)⟩, rfl, ⟨by decide, by decide⟩, by decide +kernel⟩
abbrev okt_readData_2 (x : Int) : Prop := rg .boolean x
abbrev lvt_readData_2 (Γ : Gm) (x : Int) : List (Nat × Value) := [(0, vA (mg Γ) 21), (1, vI x)]
noncomputable def t_readData_182 {A : Type} (k_185 : Mo TS A) (l1 : Int) : Mo TS ((Int) ⊕ A) :=
  pr (.inl l1)
theorem st_readData_182 {Γ : Gm} {h : CH} {d : Nat} (hT : HT h) (o : Ok Γ "LazyForgeModel" cX11_readData 5 (Option.none : Option Jvm.ClassFile.FieldType) (d + 5)) {A : Type} {K : A → TS → Prop}  (k_185 : Mo TS A) (hk_185 : Sx Γ (fun t => (h, t)) K 185 [(0, vA (mg Γ) 21)] [] (k_185)) (l1 : Int) (hl1 : rg .boolean l1) : Sx Γ (fun t => (h, t)) (KL Γ (fun t => (h, t)) okt_readData_2 K 2 (lvt_readData_2 Γ) []) 182 [(0, vA (mg Γ) 21), (1, vI l1)] [] (t_readData_182 k_185 l1) := by
  unfold t_readData_182
  refine s_goto (tgt := 2) o dX11_readData_182 (by decide) ?_
  exact s_back hl1 rfl
noncomputable def t_readData_173 {A : Type} (k_185 : Mo TS A) (k0 : Int) : Mo TS ((Int) ⊕ A) :=
  if k0 = 0 then
    t_readData_182 k_185 k0
  else
    bnd (t_next) fun _ =>
    t_readData_182 k_185 k0
theorem st_readData_173 {Γ : Gm} {h : CH} {d : Nat} (hT : HT h) (o : Ok Γ "LazyForgeModel" cX11_readData 5 (Option.none : Option Jvm.ClassFile.FieldType) (d + 5)) {A : Type} {K : A → TS → Prop}  (k_185 : Mo TS A) (hk_185 : Sx Γ (fun t => (h, t)) K 185 [(0, vA (mg Γ) 21)] [] (k_185)) (k0 : Int) (hk0 : rg .boolean k0) : Sx Γ (fun t => (h, t)) (KL Γ (fun t => (h, t)) okt_readData_2 K 2 (lvt_readData_2 Γ) []) 173 [(0, vA (mg Γ) 21)] [vI k0] (t_readData_173 k_185 k0) := by
  unfold t_readData_173
  refine r_istore_n o dX11_readData_173 rfl rfl ⟨(Nat.ne_of_beq_eq_false rfl), (fun _ => (vA_cat (mg Γ) 21)), trivial⟩ ?_
  refine s_iload_n o dX11_readData_174 rfl 0 rfl ?_
  refine s_if_eq (tgt := 182) o dX11_readData_175 (by decide) (rZ hk0) ?_ ?_
  · refine r_to [(0, vA (mg Γ) 21), (1, vI k0)] [1, 0] rfl ?_
    exact st_readData_182 hT o k_185 hk_185 k0 hk0
  · refine s_aload_n o dX11_readData_178 rfl 1 rfl ?_
    refine s_cv (d := d + 4) (C := "LazyForgeModel") (As := []) (st := []) o (st_next (mg Γ) (d + 1) h hT) mw_X11_next rfl (Or.inl (lw_all_tbl q2932)) (lw_all_tbl qs57) (lw_all_tbl q2934) (fun t => rc_t o hT t) wt_0 rfl dX11_readData_179 rfl (rs := fun _ => []) (fun _ => rfl) (fun _ _ => ?_)
    refine r_to [(0, vA (mg Γ) 21), (1, vI k0)] [1, 0] rfl ?_
    exact st_readData_182 hT o k_185 hk_185 k0 hk0
noncomputable def t_readData_172 {A : Type} (k_185 : Mo TS A) : Mo TS ((Int) ⊕ A) :=
  t_readData_173 k_185 0
theorem st_readData_172 {Γ : Gm} {h : CH} {d : Nat} (hT : HT h) (o : Ok Γ "LazyForgeModel" cX11_readData 5 (Option.none : Option Jvm.ClassFile.FieldType) (d + 5)) {A : Type} {K : A → TS → Prop}  (k_185 : Mo TS A) (hk_185 : Sx Γ (fun t => (h, t)) K 185 [(0, vA (mg Γ) 21)] [] (k_185)) : Sx Γ (fun t => (h, t)) (KL Γ (fun t => (h, t)) okt_readData_2 K 2 (lvt_readData_2 Γ) []) 172 [(0, vA (mg Γ) 21)] [] (t_readData_172 k_185) := by
  unfold t_readData_172
  refine s_iconst o dX11_readData_172 ?_
  exact st_readData_173 hT o k_185 hk_185 0 (Or.inl rfl)
noncomputable def t_readData_152 {A : Type} (k_185 : Mo TS A) : Mo TS ((Int) ⊕ A) :=
  bnd (gs 10) fun v1 =>
  if ¬ v1 = 0 then
    t_readData_172 k_185
  else
    bnd (t_isSign 124) fun v2 =>
    if v2 = 0 then
      t_readData_172 k_185
    else
      t_readData_173 k_185 1
theorem st_readData_152 {Γ : Gm} {h : CH} {d : Nat} (hT : HT h) (o : Ok Γ "LazyForgeModel" cX11_readData 5 (Option.none : Option Jvm.ClassFile.FieldType) (d + 5)) {A : Type} {K : A → TS → Prop}  (k_185 : Mo TS A) (hk_185 : Sx Γ (fun t => (h, t)) K 185 [(0, vA (mg Γ) 21)] [] (k_185)) : Sx Γ (fun t => (h, t)) (KL Γ (fun t => (h, t)) okt_readData_2 K 2 (lvt_readData_2 Γ) []) 152 [(0, vA (mg Γ) 21)] [] (t_readData_152 k_185) := by
  unfold t_readData_152
  refine s_aload_n o dX11_readData_152 rfl 0 rfl ?_
  refine r_tgf vI rfl o hT tf_fault tj_fault (lw_all_tbl q2514) dX11_readData_153 (fun v1 hv1 => ?_)
  refine s_if_ne (tgt := 172) o dX11_readData_156 (by decide) hv1 ?_ ?_
  · exact st_readData_172 hT o k_185 hk_185
  · refine s_aload_n o dX11_readData_159 rfl 0 rfl ?_
    refine s_bipush o dX11_readData_160 rfl ?_
    refine s_cv (d := d + 4) (C := "LazyForgeModel") (As := [vI 124]) (st := []) o (st_isSign (mg Γ) (d + 4) h hT 124 (r32 rfl)) mw_X11_isSign rfl (Or.inl (lw_all_tbl q2987)) (lw_all_tbl qs67) (lw_all_tbl q2989) (fun t => rc_t o hT t) wt_0 rfl dX11_readData_162 rfl (rs := fun r => [vI r]) (fun _ => rfl) (fun v2 hv2 => ?_)
    refine s_if_eq (tgt := 172) o dX11_readData_165 (by decide) (rZ (hv2 _ rfl)) ?_ ?_
    · exact st_readData_172 hT o k_185 hk_185
    · refine s_iconst o dX11_readData_168 ?_
      refine s_goto (tgt := 173) o dX11_readData_169 (by decide) ?_
      exact st_readData_173 hT o k_185 hk_185 1 (Or.inr rfl)
noncomputable def t_readData_111 {A : Type} (k_185 : Mo TS A) (l2 : Int) (l4 : Int) (k0 : Int) : Mo TS ((Int) ⊕ A) :=
  bnd (t_accept k0) fun _ =>
  bnd (gs 10) fun v1 =>
  if ¬ v1 = 0 then
    t_readData_152 k_185
  else
    bnd (gs 31) fun v2 =>
    bnd (wr 32 30 v2 l2) fun _ =>
    bnd (gs 31) fun v3 =>
    bnd (wr 33 30 v3 l4) fun _ =>
    bnd (gs 31) fun v4 =>
    bnd (ss 31 (w32 (v4 + 1))) fun _ =>
    t_readData_152 k_185
theorem st_readData_111 {Γ : Gm} {h : CH} {d : Nat} (hT : HT h) (o : Ok Γ "LazyForgeModel" cX11_readData 5 (Option.none : Option Jvm.ClassFile.FieldType) (d + 5)) {A : Type} {K : A → TS → Prop}  (k_185 : Mo TS A) (hk_185 : Sx Γ (fun t => (h, t)) K 185 [(0, vA (mg Γ) 21)] [] (k_185)) (l2 : Int) (l4 : Int) (k0 : Int) (hl2 : R64 l2) (hl4 : R32 l4) (hk0 : rg .boolean k0) : Sx Γ (fun t => (h, t)) (KL Γ (fun t => (h, t)) okt_readData_2 K 2 (lvt_readData_2 Γ) []) 111 [(0, vA (mg Γ) 21), (2, vJ l2), (4, vI l4)] [vI k0, vA (mg Γ) 21] (t_readData_111 k_185 l2 l4 k0) := by
  unfold t_readData_111
  refine s_cv (d := d + 4) (C := "LazyForgeModel") (As := [vI k0]) (st := []) o (st_accept (mg Γ) d h hT k0 hk0) mw_X11_accept rfl (Or.inl (lw_all_tbl q2979)) (lw_all_tbl qs65) (lw_all_tbl q2981) (fun t => rc_t o hT t) wt_0 rfl dX11_readData_111 rfl (rs := fun _ => []) (fun _ => rfl) (fun _ _ => ?_)
  refine s_aload_n o dX11_readData_114 rfl 0 rfl ?_
  refine r_tgf vI rfl o hT tf_fault tj_fault (lw_all_tbl q2514) dX11_readData_115 (fun v1 hv1 => ?_)
  refine s_if_ne (tgt := 152) o dX11_readData_118 (by decide) hv1 ?_ ?_
  · refine r_to [(0, vA (mg Γ) 21)] [0] rfl ?_
    exact st_readData_152 hT o k_185 hk_185
  · refine s_aload_n o dX11_readData_121 rfl 0 rfl ?_
    refine s_tga (x := 38) o hT tf_constructorNames ta_constructorNames (lw_all_tbl q2536) dX11_readData_122 ?_
    refine s_aload_n o dX11_readData_125 rfl 0 rfl ?_
    refine r_tgf vI rfl o hT tf_constructors tj_constructors (lw_all_tbl q2535) dX11_readData_126 (fun v2 hv2 => ?_)
    refine s_lload_n o dX11_readData_129 rfl 1 rfl ?_
    refine r_tlast o hT tr_constructorNames hv2 hl2 dX11_readData_130 ?_
    refine s_aload_n o dX11_readData_131 rfl 0 rfl ?_
    refine s_tga (x := 39) o hT tf_fieldCounts ta_fieldCounts (lw_all_tbl q2537) dX11_readData_132 ?_
    refine s_aload_n o dX11_readData_135 rfl 0 rfl ?_
    refine r_tgf vI rfl o hT tf_constructors tj_constructors (lw_all_tbl q2535) dX11_readData_136 (fun v3 hv3 => ?_)
    refine s_iload o dX11_readData_139 2 rfl ?_
    refine r_tiast o hT tr_fieldCounts hv3 hl4 dX11_readData_141 ?_
    refine s_aload_n o dX11_readData_142 rfl 0 rfl ?_
    refine s_dup o dX11_readData_143 (vA_cat (mg Γ) 21) ?_
    refine r_tgf vI rfl o hT tf_constructors tj_constructors (lw_all_tbl q2535) dX11_readData_144 (fun v4 hv4 => ?_)
    refine s_iconst o dX11_readData_147 ?_
    refine s_iadd o dX11_readData_148 ?_
    refine r_tpf vI rfl o hT tf_constructors tj_constructors (lw_all_tbl q2535) dX11_readData_149 (w32_R _) ty_int ?_
    refine r_to [(0, vA (mg Γ) 21)] [0] rfl ?_
    exact st_readData_152 hT o k_185 hk_185
noncomputable def t_readData_110 {A : Type} (k_185 : Mo TS A) (l2 : Int) (l4 : Int) : Mo TS ((Int) ⊕ A) :=
  t_readData_111 k_185 l2 l4 0
theorem st_readData_110 {Γ : Gm} {h : CH} {d : Nat} (hT : HT h) (o : Ok Γ "LazyForgeModel" cX11_readData 5 (Option.none : Option Jvm.ClassFile.FieldType) (d + 5)) {A : Type} {K : A → TS → Prop}  (k_185 : Mo TS A) (hk_185 : Sx Γ (fun t => (h, t)) K 185 [(0, vA (mg Γ) 21)] [] (k_185)) (l2 : Int) (l4 : Int) (hl2 : R64 l2) (hl4 : R32 l4) : Sx Γ (fun t => (h, t)) (KL Γ (fun t => (h, t)) okt_readData_2 K 2 (lvt_readData_2 Γ) []) 110 [(0, vA (mg Γ) 21), (2, vJ l2), (4, vI l4)] [vA (mg Γ) 21] (t_readData_110 k_185 l2 l4) := by
  unfold t_readData_110
  refine s_iconst o dX11_readData_110 ?_
  exact st_readData_111 hT o k_185 hk_185 l2 l4 0 hl2 hl4 (Or.inl rfl)
noncomputable def t_readData_82 {A : Type} (k_185 : Mo TS A) (l2 : Int) (k0 : Int) : Mo TS ((Int) ⊕ A) :=
  bnd (t_accept k0) fun _ =>
  bnd (gs 9) fun v1 =>
  bnd (gs 6) fun v2 =>
  if ¬ v2 = 2 then
    t_readData_110 k_185 l2 v1
  else
    if 4 < v1 then
      t_readData_110 k_185 l2 v1
    else
      t_readData_111 k_185 l2 v1 1
theorem st_readData_82 {Γ : Gm} {h : CH} {d : Nat} (hT : HT h) (o : Ok Γ "LazyForgeModel" cX11_readData 5 (Option.none : Option Jvm.ClassFile.FieldType) (d + 5)) {A : Type} {K : A → TS → Prop}  (k_185 : Mo TS A) (hk_185 : Sx Γ (fun t => (h, t)) K 185 [(0, vA (mg Γ) 21)] [] (k_185)) (l2 : Int) (k0 : Int) (hl2 : R64 l2) (hk0 : rg .boolean k0) : Sx Γ (fun t => (h, t)) (KL Γ (fun t => (h, t)) okt_readData_2 K 2 (lvt_readData_2 Γ) []) 82 [(0, vA (mg Γ) 21), (2, vJ l2)] [vI k0, vA (mg Γ) 21] (t_readData_82 k_185 l2 k0) := by
  unfold t_readData_82
  refine s_cv (d := d + 4) (C := "LazyForgeModel") (As := [vI k0]) (st := []) o (st_accept (mg Γ) d h hT k0 hk0) mw_X11_accept rfl (Or.inl (lw_all_tbl q2979)) (lw_all_tbl qs65) (lw_all_tbl q2981) (fun t => rc_t o hT t) wt_0 rfl dX11_readData_82 rfl (rs := fun _ => []) (fun _ => rfl) (fun _ _ => ?_)
  refine s_aload_n o dX11_readData_85 rfl 0 rfl ?_
  refine r_tgf vI rfl o hT tf_wordNumber tj_wordNumber (lw_all_tbl q2513) dX11_readData_86 (fun v1 hv1 => ?_)
  refine r_istore o dX11_readData_89 rfl ⟨(Nat.ne_of_beq_eq_false rfl), (fun _ => (vA_cat (mg Γ) 21)), ⟨(Nat.ne_of_beq_eq_false rfl), (fun e => absurd e (Nat.ne_of_beq_eq_false rfl)), trivial⟩⟩ ?_
  refine s_aload_n o dX11_readData_91 rfl 1 rfl ?_
  refine s_aload_n o dX11_readData_92 rfl 1 rfl ?_
  refine r_tgf vI rfl o hT tf_word tj_word (lw_all_tbl q2510) dX11_readData_93 (fun v2 hv2 => ?_)
  refine s_iconst o dX11_readData_96 ?_
  refine s_icmp_ne (tgt := 110) o dX11_readData_97 (by decide) hv2 (r32 rfl) ?_ ?_
  · refine r_to [(0, vA (mg Γ) 21), (2, vJ l2), (4, vI v1)] [1, 2, 0] rfl ?_
    exact st_readData_110 hT o k_185 hk_185 l2 v1 hl2 hv1
  · refine s_iload o dX11_readData_100 0 rfl ?_
    refine s_iconst o dX11_readData_102 ?_
    refine s_icmp_gt (tgt := 110) o dX11_readData_103 (by decide) hv1 (r32 rfl) ?_ ?_
    · refine r_to [(0, vA (mg Γ) 21), (2, vJ l2), (4, vI v1)] [1, 2, 0] rfl ?_
      exact st_readData_110 hT o k_185 hk_185 l2 v1 hl2 hv1
    · refine s_iconst o dX11_readData_106 ?_
      refine s_goto (tgt := 111) o dX11_readData_107 (by decide) ?_
      refine r_to [(0, vA (mg Γ) 21), (2, vJ l2), (4, vI v1)] [1, 2, 0] rfl ?_
      exact st_readData_111 hT o k_185 hk_185 l2 v1 1 hl2 hv1 (Or.inr rfl)
noncomputable def t_readData_63 {A : Type} (k_185 : Mo TS A) : Mo TS ((Int) ⊕ A) :=
  bnd (gs 8) fun v1 =>
  bnd (gs 6) fun v2 =>
  if ¬ v2 = 4 then
    t_readData_82 k_185 v1 0
  else
    t_readData_82 k_185 v1 1
theorem st_readData_63 {Γ : Gm} {h : CH} {d : Nat} (hT : HT h) (o : Ok Γ "LazyForgeModel" cX11_readData 5 (Option.none : Option Jvm.ClassFile.FieldType) (d + 5)) {A : Type} {K : A → TS → Prop}  (k_185 : Mo TS A) (hk_185 : Sx Γ (fun t => (h, t)) K 185 [(0, vA (mg Γ) 21)] [] (k_185)) : Sx Γ (fun t => (h, t)) (KL Γ (fun t => (h, t)) okt_readData_2 K 2 (lvt_readData_2 Γ) []) 63 [(0, vA (mg Γ) 21)] [] (t_readData_63 k_185) := by
  unfold t_readData_63
  refine s_aload_n o dX11_readData_63 rfl 0 rfl ?_
  refine r_tgf vJ rfl o hT tf_wordName tj_wordName (lw_all_tbl q2512) dX11_readData_64 (fun v1 hv1 => ?_)
  refine r_lstore_n o dX11_readData_67 rfl rfl ⟨(Nat.ne_of_beq_eq_false rfl), (Nat.ne_of_beq_eq_false rfl), (fun _ => (vA_cat (mg Γ) 21)), trivial⟩ ?_
  refine s_aload_n o dX11_readData_68 rfl 1 rfl ?_
  refine s_aload_n o dX11_readData_69 rfl 1 rfl ?_
  refine r_tgf vI rfl o hT tf_word tj_word (lw_all_tbl q2510) dX11_readData_70 (fun v2 hv2 => ?_)
  refine s_iconst o dX11_readData_73 ?_
  refine s_icmp_ne (tgt := 81) o dX11_readData_74 (by decide) hv2 (r32 rfl) ?_ ?_
  · refine s_iconst o dX11_readData_81 ?_
    refine r_to [(0, vA (mg Γ) 21), (2, vJ v1)] [1, 0] rfl ?_
    exact st_readData_82 hT o k_185 hk_185 v1 0 hv1 (Or.inl rfl)
  · refine s_iconst o dX11_readData_77 ?_
    refine s_goto (tgt := 82) o dX11_readData_78 (by decide) ?_
    refine r_to [(0, vA (mg Γ) 21), (2, vJ v1)] [1, 0] rfl ?_
    exact st_readData_82 hT o k_185 hk_185 v1 1 hv1 (Or.inr rfl)
noncomputable def t_readData_37 {A : Type} (k_185 : Mo TS A) : Mo TS ((Int) ⊕ A) :=
  bnd (gs 6) fun v1 =>
  if ¬ v1 = 4 then
    t_readData_63 k_185
  else
    bnd (gs 31) fun v2 =>
    if ¬ v2 = 30 then
      t_readData_63 k_185
    else
      bnd (gs 7) fun v3 =>
      bnd (t_fail 4 v3) fun _ =>
      t_readData_63 k_185
theorem st_readData_37 {Γ : Gm} {h : CH} {d : Nat} (hT : HT h) (o : Ok Γ "LazyForgeModel" cX11_readData 5 (Option.none : Option Jvm.ClassFile.FieldType) (d + 5)) {A : Type} {K : A → TS → Prop}  (k_185 : Mo TS A) (hk_185 : Sx Γ (fun t => (h, t)) K 185 [(0, vA (mg Γ) 21)] [] (k_185)) : Sx Γ (fun t => (h, t)) (KL Γ (fun t => (h, t)) okt_readData_2 K 2 (lvt_readData_2 Γ) []) 37 [(0, vA (mg Γ) 21)] [] (t_readData_37 k_185) := by
  unfold t_readData_37
  refine s_aload_n o dX11_readData_37 rfl 0 rfl ?_
  refine r_tgf vI rfl o hT tf_word tj_word (lw_all_tbl q2510) dX11_readData_38 (fun v1 hv1 => ?_)
  refine s_iconst o dX11_readData_41 ?_
  refine s_icmp_ne (tgt := 63) o dX11_readData_42 (by decide) hv1 (r32 rfl) ?_ ?_
  · exact st_readData_63 hT o k_185 hk_185
  · refine s_aload_n o dX11_readData_45 rfl 0 rfl ?_
    refine r_tgf vI rfl o hT tf_constructors tj_constructors (lw_all_tbl q2535) dX11_readData_46 (fun v2 hv2 => ?_)
    refine s_bipush o dX11_readData_49 rfl ?_
    refine s_icmp_ne (tgt := 63) o dX11_readData_51 (by decide) hv2 (r32 rfl) ?_ ?_
    · exact st_readData_63 hT o k_185 hk_185
    · refine s_aload_n o dX11_readData_54 rfl 0 rfl ?_
      refine s_iconst o dX11_readData_55 ?_
      refine s_aload_n o dX11_readData_56 rfl 0 rfl ?_
      refine r_tgf vI rfl o hT tf_wordPlace tj_wordPlace (lw_all_tbl q2511) dX11_readData_57 (fun v3 hv3 => ?_)
      refine s_cv (d := d + 4) (C := "LazyForgeModel") (As := [vI 4, vI v3]) (st := []) o (st_fail (mg Γ) (d + 4) h hT 4 v3 (r32 rfl) hv3) mw_X11_fail rfl (Or.inl (lw_all_tbl q2975)) (lw_all_tbl qs64) (lw_all_tbl q2977) (fun t => rc_t o hT t) wt_0 rfl dX11_readData_60 rfl (rs := fun _ => []) (fun _ => rfl) (fun _ _ => ?_)
      exact st_readData_63 hT o k_185 hk_185
noncomputable def t_readData_2b {A : Type} (k_185 : Mo TS A) (l1 : Int) : Mo TS ((Int) ⊕ A) :=
  if l1 = 0 then
    lo k_185
  else
    bnd (gs 6) fun v1 =>
    if ¬ v1 = 4 then
      t_readData_37 k_185
    else
      bnd (gs 8) fun v2 =>
      bnd (t_findConstructor v2) fun v3 =>
      if v3 < 0 then
        t_readData_37 k_185
      else
        bnd (gs 7) fun v4 =>
        bnd (t_fail 2 v4) fun _ =>
        t_readData_63 k_185
theorem st_readData_2b {Γ : Gm} {h : CH} {d : Nat} (hT : HT h) (o : Ok Γ "LazyForgeModel" cX11_readData 5 (Option.none : Option Jvm.ClassFile.FieldType) (d + 5)) {A : Type} {K : A → TS → Prop} (k_185 : Mo TS A) (hk_185 : Sx Γ (fun t => (h, t)) K 185 [(0, vA (mg Γ) 21)] [] (k_185)) (l1 : Int) (hl1 : rg .boolean l1) : Sx Γ (fun t => (h, t)) (KL Γ (fun t => (h, t)) okt_readData_2 K 2 (lvt_readData_2 Γ) []) 2 [(0, vA (mg Γ) 21), (1, vI l1)] [] (t_readData_2b k_185 l1) := by
  unfold t_readData_2b
  refine s_iload_n o dX11_readData_2 rfl 1 rfl ?_
  refine s_if_eq (tgt := 185) o dX11_readData_3 (by decide) (rZ hl1) ?_ ?_
  · refine r_to [(0, vA (mg Γ) 21)] [0] rfl ?_
    exact s_lo hk_185
  · refine s_aload_n o dX11_readData_6 rfl 0 rfl ?_
    refine r_tgf vI rfl o hT tf_word tj_word (lw_all_tbl q2510) dX11_readData_7 (fun v1 hv1 => ?_)
    refine s_iconst o dX11_readData_10 ?_
    refine s_icmp_ne (tgt := 37) o dX11_readData_11 (by decide) hv1 (r32 rfl) ?_ ?_
    · refine r_to [(0, vA (mg Γ) 21)] [0] rfl ?_
      exact st_readData_37 hT o k_185 hk_185
    · refine s_aload_n o dX11_readData_14 rfl 0 rfl ?_
      refine s_aload_n o dX11_readData_15 rfl 0 rfl ?_
      refine r_tgf vJ rfl o hT tf_wordName tj_wordName (lw_all_tbl q2512) dX11_readData_16 (fun v2 hv2 => ?_)
      refine s_cv (d := d + 4) (C := "LazyForgeModel") (As := [vJ v2]) (st := []) o (st_findConstructor (mg Γ) (d + 4) h hT v2 hv2) mw_X11_findConstructor rfl (Or.inl (lw_all_tbl q2971)) (lw_all_tbl qs63) (lw_all_tbl q2973) (fun t => rc_t o hT t) wt_0 rfl dX11_readData_19 rfl (rs := fun r => [vI r]) (fun _ => rfl) (fun v3 hv3 => ?_)
      refine s_if_lt (tgt := 37) o dX11_readData_22 (by decide) (hv3 _ rfl) ?_ ?_
      · refine r_to [(0, vA (mg Γ) 21)] [0] rfl ?_
        exact st_readData_37 hT o k_185 hk_185
      · refine s_aload_n o dX11_readData_25 rfl 0 rfl ?_
        refine s_iconst o dX11_readData_26 ?_
        refine s_aload_n o dX11_readData_27 rfl 0 rfl ?_
        refine r_tgf vI rfl o hT tf_wordPlace tj_wordPlace (lw_all_tbl q2511) dX11_readData_28 (fun v4 hv4 => ?_)
        refine s_cv (d := d + 4) (C := "LazyForgeModel") (As := [vI 2, vI v4]) (st := []) o (st_fail (mg Γ) (d + 4) h hT 2 v4 (r32 rfl) hv4) mw_X11_fail rfl (Or.inl (lw_all_tbl q2975)) (lw_all_tbl qs64) (lw_all_tbl q2977) (fun t => rc_t o hT t) wt_0 rfl dX11_readData_31 rfl (rs := fun _ => []) (fun _ => rfl) (fun _ _ => ?_)
        refine s_goto (tgt := 63) o dX11_readData_34 (by decide) ?_
        refine r_to [(0, vA (mg Γ) 21)] [0] rfl ?_
        exact st_readData_63 hT o k_185 hk_185
noncomputable def t_readData_2 {A : Type} (k_185 : Mo TS A) (l1 : Int) : Mo TS A := Loop (fun x => t_readData_2b k_185 x) l1
theorem st_readData_2 {Γ : Gm} {h : CH} {d : Nat} (hT : HT h) (o : Ok Γ "LazyForgeModel" cX11_readData 5 (Option.none : Option Jvm.ClassFile.FieldType) (d + 5)) {A : Type} {K : A → TS → Prop} (k_185 : Mo TS A) (hk_185 : Sx Γ (fun t => (h, t)) K 185 [(0, vA (mg Γ) 21)] [] (k_185)) (l1 : Int) (hl1 : rg .boolean l1) : Sx Γ (fun t => (h, t)) K 2 [(0, vA (mg Γ) 21), (1, vI l1)] [] (t_readData_2 k_185 l1) :=
  s_loop okt_readData_2 (lvt_readData_2 Γ) (fun x hx => st_readData_2b hT o k_185 hk_185 x hx) (x := l1) hl1
noncomputable def t_readData : Mo TS Int :=
  t_readData_2
    (bnd (t_isSign 59) fun v1 =>
  bnd (t_accept v1) fun _ =>
  pr 0) 1
theorem st_readData (g : gC) (d : Nat) (h : CH) (hT : HT h) : SF g yX11_readData (Cond.code yX11_readData cX11_readData 5 (Option.none : Option Jvm.ClassFile.FieldType)) (Option.none : Option Jvm.ClassFile.FieldType) (d + 5) [vA g 21] (fun t => (h, t)) (t_readData) := by
  refine SF.of (lv := [(0, vA g 21)]) (by decide) (wt_A wt_0) rfl (by simp only [la_A, la_I, la_J, la_0]) (fun Γ hg hnm o => ?_)
  subst hg
  have o : Ok Γ "LazyForgeModel" cX11_readData 5 (Option.none : Option Jvm.ClassFile.FieldType) (d + 5) := o
  unfold t_readData
  refine s_iconst o dX11_readData_0 ?_
  refine r_istore_n o dX11_readData_1 rfl rfl ⟨(Nat.ne_of_beq_eq_false rfl), (fun _ => (vA_cat (mg Γ) 21)), trivial⟩ ?_
  refine r_to [(0, vA (mg Γ) 21), (1, vI 1)] [1, 0] rfl ?_
  refine st_readData_2 hT o _ ?_ 1 (Or.inr rfl)
  · refine s_aload_n o dX11_readData_185 rfl 0 rfl ?_
    refine s_aload_n o dX11_readData_186 rfl 0 rfl ?_
    refine s_bipush o dX11_readData_187 rfl ?_
    refine s_cv (d := d + 4) (C := "LazyForgeModel") (As := [vI 59]) (st := [vA (mg Γ) 21]) o (st_isSign (mg Γ) (d + 4) h hT 59 (r32 rfl)) mw_X11_isSign rfl (Or.inl (lw_all_tbl q2987)) (lw_all_tbl qs67) (lw_all_tbl q2989) (fun t => rc_t o hT t) (wt_A wt_0) rfl dX11_readData_189 rfl (rs := fun r => [vI r, vA (mg Γ) 21]) (fun _ => rfl) (fun v1 hv1 => ?_)
    refine s_cv (d := d + 4) (C := "LazyForgeModel") (As := [vI v1]) (st := []) o (st_accept (mg Γ) d h hT v1 (hv1 _ rfl)) mw_X11_accept rfl (Or.inl (lw_all_tbl q2979)) (lw_all_tbl qs65) (lw_all_tbl q2981) (fun t => rc_t o hT t) wt_0 rfl dX11_readData_192 rfl (rs := fun _ => []) (fun _ => rfl) (fun _ _ => ?_)
    exact s_vret o rfl dX11_readData_195 (fun _ hh => hh)
theorem dX11_parameters_0 : decode cX11_parameters 0 = .ok (.aload_n 0, 1) := by decide +kernel
theorem dX11_parameters_1 : decode cX11_parameters 1 = .ok (.getfield 41, 3) := by decide +kernel
theorem dX11_parameters_4 : decode cX11_parameters 4 = .ok (.iload_n 1, 1) := by decide +kernel
theorem dX11_parameters_5 : decode cX11_parameters 5 = .ok (.aload_n 0, 1) := by decide +kernel
theorem dX11_parameters_6 : decode cX11_parameters 6 = .ok (.getfield 330, 3) := by decide +kernel
theorem dX11_parameters_9 : decode cX11_parameters 9 = .ok (.iastore, 1) := by decide +kernel
theorem dX11_parameters_10 : decode cX11_parameters 10 = .ok (.aload_n 0, 1) := by decide +kernel
theorem dX11_parameters_11 : decode cX11_parameters 11 = .ok (.getfield 311, 3) := by decide +kernel
theorem dX11_parameters_14 : decode cX11_parameters 14 = .ok (.ifCond .ne 157, 3) := by decide +kernel
theorem dX11_parameters_17 : decode cX11_parameters 17 = .ok (.aload_n 0, 1) := by decide +kernel
theorem dX11_parameters_18 : decode cX11_parameters 18 = .ok (.getfield 286, 3) := by decide +kernel
theorem dX11_parameters_21 : decode cX11_parameters 21 = .ok (.iconst 3, 1) := by decide +kernel
theorem dX11_parameters_22 : decode cX11_parameters 22 = .ok (.if_icmp .eq 13, 3) := by decide +kernel
theorem dX11_parameters_25 : decode cX11_parameters 25 = .ok (.aload_n 0, 1) := by decide +kernel
theorem dX11_parameters_26 : decode cX11_parameters 26 = .ok (.getfield 44, 3) := by decide +kernel
theorem dX11_parameters_29 : decode cX11_parameters 29 = .ok (.iload_n 1, 1) := by decide +kernel
theorem dX11_parameters_30 : decode cX11_parameters 30 = .ok (.iaload, 1) := by decide +kernel
theorem dX11_parameters_31 : decode cX11_parameters 31 = .ok (.iload_n 2, 1) := by decide +kernel
theorem dX11_parameters_32 : decode cX11_parameters 32 = .ok (.if_icmp .ge 139, 3) := by decide +kernel
theorem dX11_parameters_35 : decode cX11_parameters 35 = .ok (.aload_n 0, 1) := by decide +kernel
theorem dX11_parameters_36 : decode cX11_parameters 36 = .ok (.getfield 286, 3) := by decide +kernel
theorem dX11_parameters_39 : decode cX11_parameters 39 = .ok (.iconst 3, 1) := by decide +kernel
theorem dX11_parameters_40 : decode cX11_parameters 40 = .ok (.if_icmp .ne 27, 3) := by decide +kernel
theorem dX11_parameters_43 : decode cX11_parameters 43 = .ok (.aload_n 0, 1) := by decide +kernel
theorem dX11_parameters_44 : decode cX11_parameters 44 = .ok (.iload_n 1, 1) := by decide +kernel
theorem dX11_parameters_45 : decode cX11_parameters 45 = .ok (.aload_n 0, 1) := by decide +kernel
theorem dX11_parameters_46 : decode cX11_parameters 46 = .ok (.getfield 278, 3) := by decide +kernel
theorem dX11_parameters_49 : decode cX11_parameters 49 = .ok (.invokevirtual 351, 3) := by decide +kernel
theorem dX11_parameters_52 : decode cX11_parameters 52 = .ok (.ifCond .eq 15, 3) := by decide +kernel
theorem dX11_parameters_55 : decode cX11_parameters 55 = .ok (.aload_n 0, 1) := by decide +kernel
theorem dX11_parameters_56 : decode cX11_parameters 56 = .ok (.iconst 2, 1) := by decide +kernel
theorem dX11_parameters_57 : decode cX11_parameters 57 = .ok (.aload_n 0, 1) := by decide +kernel
theorem dX11_parameters_58 : decode cX11_parameters 58 = .ok (.getfield 275, 3) := by decide +kernel
theorem dX11_parameters_61 : decode cX11_parameters 61 = .ok (.invokevirtual 317, 3) := by decide +kernel
theorem dX11_parameters_64 : decode cX11_parameters 64 = .ok (.goto 30, 3) := by decide +kernel
theorem dX11_parameters_67 : decode cX11_parameters 67 = .ok (.aload_n 0, 1) := by decide +kernel
theorem dX11_parameters_68 : decode cX11_parameters 68 = .ok (.getfield 286, 3) := by decide +kernel
theorem dX11_parameters_71 : decode cX11_parameters 71 = .ok (.iconst 3, 1) := by decide +kernel
theorem dX11_parameters_72 : decode cX11_parameters 72 = .ok (.if_icmp .ne 22, 3) := by decide +kernel
theorem dX11_parameters_75 : decode cX11_parameters 75 = .ok (.aload_n 0, 1) := by decide +kernel
theorem dX11_parameters_76 : decode cX11_parameters 76 = .ok (.getfield 44, 3) := by decide +kernel
theorem dX11_parameters_79 : decode cX11_parameters 79 = .ok (.iload_n 1, 1) := by decide +kernel
theorem dX11_parameters_80 : decode cX11_parameters 80 = .ok (.iaload, 1) := by decide +kernel
theorem dX11_parameters_81 : decode cX11_parameters 81 = .ok (.iconst 5, 1) := by decide +kernel
theorem dX11_parameters_82 : decode cX11_parameters 82 = .ok (.if_icmp .ne 12, 3) := by decide +kernel
theorem dX11_parameters_85 : decode cX11_parameters 85 = .ok (.aload_n 0, 1) := by decide +kernel
theorem dX11_parameters_86 : decode cX11_parameters 86 = .ok (.iconst 4, 1) := by decide +kernel
theorem dX11_parameters_87 : decode cX11_parameters 87 = .ok (.aload_n 0, 1) := by decide +kernel
theorem dX11_parameters_88 : decode cX11_parameters 88 = .ok (.getfield 275, 3) := by decide +kernel
theorem dX11_parameters_91 : decode cX11_parameters 91 = .ok (.invokevirtual 317, 3) := by decide +kernel
theorem dX11_parameters_94 : decode cX11_parameters 94 = .ok (.aload_n 0, 1) := by decide +kernel
theorem dX11_parameters_95 : decode cX11_parameters 95 = .ok (.getfield 278, 3) := by decide +kernel
theorem dX11_parameters_98 : decode cX11_parameters 98 = .ok (.lstore_n 3, 1) := by decide +kernel
theorem dX11_parameters_99 : decode cX11_parameters 99 = .ok (.aload_n 0, 1) := by decide +kernel
theorem dX11_parameters_100 : decode cX11_parameters 100 = .ok (.getfield 16, 3) := by decide +kernel
theorem dX11_parameters_103 : decode cX11_parameters 103 = .ok (.iload_n 1, 1) := by decide +kernel
theorem dX11_parameters_104 : decode cX11_parameters 104 = .ok (.iaload, 1) := by decide +kernel
theorem dX11_parameters_105 : decode cX11_parameters 105 = .ok (.iconst 1, 1) := by decide +kernel
theorem dX11_parameters_106 : decode cX11_parameters 106 = .ok (.if_icmp .ne 32, 3) := by decide +kernel
theorem dX11_parameters_109 : decode cX11_parameters 109 = .ok (.aload_n 0, 1) := by decide +kernel
theorem dX11_parameters_110 : decode cX11_parameters 110 = .ok (.getfield 44, 3) := by decide +kernel
theorem dX11_parameters_113 : decode cX11_parameters 113 = .ok (.iload_n 1, 1) := by decide +kernel
theorem dX11_parameters_114 : decode cX11_parameters 114 = .ok (.iaload, 1) := by decide +kernel
theorem dX11_parameters_115 : decode cX11_parameters 115 = .ok (.ifCond .ne 23, 3) := by decide +kernel
theorem dX11_parameters_118 : decode cX11_parameters 118 = .ok (.aload_n 0, 1) := by decide +kernel
theorem dX11_parameters_119 : decode cX11_parameters 119 = .ok (.getfield 286, 3) := by decide +kernel
theorem dX11_parameters_122 : decode cX11_parameters 122 = .ok (.iconst 3, 1) := by decide +kernel
theorem dX11_parameters_123 : decode cX11_parameters 123 = .ok (.if_icmp .ne 15, 3) := by decide +kernel
theorem dX11_parameters_126 : decode cX11_parameters 126 = .ok (.aload_n 0, 1) := by decide +kernel
theorem dX11_parameters_127 : decode cX11_parameters 127 = .ok (.getfield 311, 3) := by decide +kernel
theorem dX11_parameters_130 : decode cX11_parameters 130 = .ok (.ifCond .ne 8, 3) := by decide +kernel
theorem dX11_parameters_133 : decode cX11_parameters 133 = .ok (.aload_n 0, 1) := by decide +kernel
theorem dX11_parameters_134 : decode cX11_parameters 134 = .ok (.invokevirtual 355, 3) := by decide +kernel
theorem dX11_parameters_137 : decode cX11_parameters 137 = .ok (.pop, 1) := by decide +kernel
theorem dX11_parameters_138 : decode cX11_parameters 138 = .ok (.aload_n 0, 1) := by decide +kernel
theorem dX11_parameters_139 : decode cX11_parameters 139 = .ok (.aload_n 0, 1) := by decide +kernel
theorem dX11_parameters_140 : decode cX11_parameters 140 = .ok (.getfield 286, 3) := by decide +kernel
theorem dX11_parameters_143 : decode cX11_parameters 143 = .ok (.iconst 3, 1) := by decide +kernel
theorem dX11_parameters_144 : decode cX11_parameters 144 = .ok (.if_icmp .ne 7, 3) := by decide +kernel
theorem dX11_parameters_147 : decode cX11_parameters 147 = .ok (.iconst 1, 1) := by decide +kernel
theorem dX11_parameters_148 : decode cX11_parameters 148 = .ok (.goto 4, 3) := by decide +kernel
theorem dX11_parameters_151 : decode cX11_parameters 151 = .ok (.iconst 0, 1) := by decide +kernel
theorem dX11_parameters_152 : decode cX11_parameters 152 = .ok (.invokevirtual 359, 3) := by decide +kernel
theorem dX11_parameters_155 : decode cX11_parameters 155 = .ok (.aload_n 0, 1) := by decide +kernel
theorem dX11_parameters_156 : decode cX11_parameters 156 = .ok (.getfield 311, 3) := by decide +kernel
theorem dX11_parameters_159 : decode cX11_parameters 159 = .ok (.ifCond .ne 9, 3) := by decide +kernel
theorem dX11_parameters_162 : decode cX11_parameters 162 = .ok (.aload_n 0, 1) := by decide +kernel
theorem dX11_parameters_163 : decode cX11_parameters 163 = .ok (.iload_n 1, 1) := by decide +kernel
theorem dX11_parameters_164 : decode cX11_parameters 164 = .ok (.lload_n 3, 1) := by decide +kernel
theorem dX11_parameters_165 : decode cX11_parameters 165 = .ok (.invokevirtual 362, 3) := by decide +kernel
theorem dX11_parameters_168 : decode cX11_parameters 168 = .ok (.goto (-158), 3) := by decide +kernel
theorem dX11_parameters_171 : decode cX11_parameters 171 = .ok (.return_, 1) := by decide +kernel
theorem mw_X11_parameters : MW yX11_parameters (Cond.code yX11_parameters cX11_parameters 5 (Option.none : Option Jvm.ClassFile.FieldType)) cX11_parameters 5 (Option.none : Option Jvm.ClassFile.FieldType) 2 := ⟨rfl, ⟨(lw_all_tbl q3002), rfl, (lw_all_tbl q173)⟩, rfl, ⟨by decide, by decide⟩, by decide +kernel⟩
abbrev okt_parameters_10 (x : Int × Int) : Prop := R32 x.1 ∧ R32 x.2
abbrev lvt_parameters_10 (Γ : Gm) (x : Int × Int) : List (Nat × Value) := [(0, vA (mg Γ) 21), (1, vI x.1), (2, vI x.2)]
noncomputable def t_parameters_168 {A : Type} (k_171 : Mo TS A) (l1 : Int) (l2 : Int) : Mo TS ((Int × Int) ⊕ A) :=
  pr (.inl (l1, l2))
theorem st_parameters_168 {Γ : Gm} {h : CH} {d : Nat} (hT : HT h) (o : Ok Γ "LazyForgeModel" cX11_parameters 5 (Option.none : Option Jvm.ClassFile.FieldType) (d + 5)) {A : Type} {K : A → TS → Prop}  (k_171 : Mo TS A) (hk_171 : Sx Γ (fun t => (h, t)) K 171 [] [] (k_171)) (l1 : Int) (l2 : Int) (hl1 : R32 l1) (hl2 : R32 l2) : Sx Γ (fun t => (h, t)) (KL Γ (fun t => (h, t)) okt_parameters_10 K 10 (lvt_parameters_10 Γ) []) 168 [(0, vA (mg Γ) 21), (1, vI l1), (2, vI l2)] [] (t_parameters_168 k_171 l1 l2) := by
  unfold t_parameters_168
  refine s_goto (tgt := 10) o dX11_parameters_168 (by decide) ?_
  exact s_back (⟨hl1, hl2⟩) rfl
noncomputable def t_parameters_152 {A : Type} (k_171 : Mo TS A) (l1 : Int) (l2 : Int) (l3 : Int) (k0 : Int) : Mo TS ((Int × Int) ⊕ A) :=
  bnd (t_accept k0) fun _ =>
  bnd (gs 10) fun v1 =>
  if ¬ v1 = 0 then
    t_parameters_168 k_171 l1 l2
  else
    bnd (t_giveName l1 l3) fun _ =>
    t_parameters_168 k_171 l1 l2
theorem st_parameters_152 {Γ : Gm} {h : CH} {d : Nat} (hT : HT h) (o : Ok Γ "LazyForgeModel" cX11_parameters 5 (Option.none : Option Jvm.ClassFile.FieldType) (d + 5)) {A : Type} {K : A → TS → Prop}  (k_171 : Mo TS A) (hk_171 : Sx Γ (fun t => (h, t)) K 171 [] [] (k_171)) (l1 : Int) (l2 : Int) (l3 : Int) (k0 : Int) (hl1 : R32 l1) (hl2 : R32 l2) (hl3 : R64 l3) (hk0 : rg .boolean k0) : Sx Γ (fun t => (h, t)) (KL Γ (fun t => (h, t)) okt_parameters_10 K 10 (lvt_parameters_10 Γ) []) 152 [(0, vA (mg Γ) 21), (1, vI l1), (2, vI l2), (3, vJ l3)] [vI k0, vA (mg Γ) 21] (t_parameters_152 k_171 l1 l2 l3 k0) := by
  unfold t_parameters_152
  refine s_cv (d := d + 4) (C := "LazyForgeModel") (As := [vI k0]) (st := []) o (st_accept (mg Γ) d h hT k0 hk0) mw_X11_accept rfl (Or.inl (lw_all_tbl q2979)) (lw_all_tbl qs65) (lw_all_tbl q2981) (fun t => rc_t o hT t) wt_0 rfl dX11_parameters_152 rfl (rs := fun _ => []) (fun _ => rfl) (fun _ _ => ?_)
  refine s_aload_n o dX11_parameters_155 rfl 0 rfl ?_
  refine r_tgf vI rfl o hT tf_fault tj_fault (lw_all_tbl q2514) dX11_parameters_156 (fun v1 hv1 => ?_)
  refine s_if_ne (tgt := 168) o dX11_parameters_159 (by decide) hv1 ?_ ?_
  · refine r_to [(0, vA (mg Γ) 21), (1, vI l1), (2, vI l2)] [0, 1, 2] rfl ?_
    exact st_parameters_168 hT o k_171 hk_171 l1 l2 hl1 hl2
  · refine s_aload_n o dX11_parameters_162 rfl 0 rfl ?_
    refine s_iload_n o dX11_parameters_163 rfl 1 rfl ?_
    refine s_lload_n o dX11_parameters_164 rfl 3 rfl ?_
    refine s_cv (d := d + 4) (C := "LazyForgeModel") (As := [vI l1, vJ l3]) (st := []) o (st_giveName (mg Γ) (d + 4) h hT l1 l3 hl1 hl3) mw_X11_giveName rfl (Or.inl (lw_all_tbl q3011)) (lw_all_tbl qs73) (lw_all_tbl q3013) (fun t => rc_t o hT t) wt_0 rfl dX11_parameters_165 rfl (rs := fun _ => []) (fun _ => rfl) (fun _ _ => ?_)
    refine r_to [(0, vA (mg Γ) 21), (1, vI l1), (2, vI l2)] [0, 1, 2] rfl ?_
    exact st_parameters_168 hT o k_171 hk_171 l1 l2 hl1 hl2
noncomputable def t_parameters_138 {A : Type} (k_171 : Mo TS A) (l1 : Int) (l2 : Int) (l3 : Int) : Mo TS ((Int × Int) ⊕ A) :=
  bnd (gs 6) fun v1 =>
  if ¬ v1 = 3 then
    t_parameters_152 k_171 l1 l2 l3 0
  else
    t_parameters_152 k_171 l1 l2 l3 1
theorem st_parameters_138 {Γ : Gm} {h : CH} {d : Nat} (hT : HT h) (o : Ok Γ "LazyForgeModel" cX11_parameters 5 (Option.none : Option Jvm.ClassFile.FieldType) (d + 5)) {A : Type} {K : A → TS → Prop}  (k_171 : Mo TS A) (hk_171 : Sx Γ (fun t => (h, t)) K 171 [] [] (k_171)) (l1 : Int) (l2 : Int) (l3 : Int) (hl1 : R32 l1) (hl2 : R32 l2) (hl3 : R64 l3) : Sx Γ (fun t => (h, t)) (KL Γ (fun t => (h, t)) okt_parameters_10 K 10 (lvt_parameters_10 Γ) []) 138 [(0, vA (mg Γ) 21), (1, vI l1), (2, vI l2), (3, vJ l3)] [] (t_parameters_138 k_171 l1 l2 l3) := by
  unfold t_parameters_138
  refine s_aload_n o dX11_parameters_138 rfl 0 rfl ?_
  refine s_aload_n o dX11_parameters_139 rfl 0 rfl ?_
  refine r_tgf vI rfl o hT tf_word tj_word (lw_all_tbl q2510) dX11_parameters_140 (fun v1 hv1 => ?_)
  refine s_iconst o dX11_parameters_143 ?_
  refine s_icmp_ne (tgt := 151) o dX11_parameters_144 (by decide) hv1 (r32 rfl) ?_ ?_
  · refine s_iconst o dX11_parameters_151 ?_
    exact st_parameters_152 hT o k_171 hk_171 l1 l2 l3 0 hl1 hl2 hl3 (Or.inl rfl)
  · refine s_iconst o dX11_parameters_147 ?_
    refine s_goto (tgt := 152) o dX11_parameters_148 (by decide) ?_
    exact st_parameters_152 hT o k_171 hk_171 l1 l2 l3 1 hl1 hl2 hl3 (Or.inr rfl)
noncomputable def t_parameters_94 {A : Type} (k_171 : Mo TS A) (l1 : Int) (l2 : Int) : Mo TS ((Int × Int) ⊕ A) :=
  bnd (gs 8) fun v1 =>
  bnd (rd 13 3200 l1) fun v2 =>
  if ¬ v2 = 1 then
    t_parameters_138 k_171 l1 l2 v1
  else
    bnd (rd 22 3200 l1) fun v3 =>
    if ¬ v3 = 0 then
      t_parameters_138 k_171 l1 l2 v1
    else
      bnd (gs 6) fun v4 =>
      if ¬ v4 = 3 then
        t_parameters_138 k_171 l1 l2 v1
      else
        bnd (gs 10) fun v5 =>
        if ¬ v5 = 0 then
          t_parameters_138 k_171 l1 l2 v1
        else
          bnd (t_part) fun v6 =>
          t_parameters_138 k_171 l1 l2 v1
theorem st_parameters_94 {Γ : Gm} {h : CH} {d : Nat} (hT : HT h) (o : Ok Γ "LazyForgeModel" cX11_parameters 5 (Option.none : Option Jvm.ClassFile.FieldType) (d + 5)) {A : Type} {K : A → TS → Prop}  (k_171 : Mo TS A) (hk_171 : Sx Γ (fun t => (h, t)) K 171 [] [] (k_171)) (l1 : Int) (l2 : Int) (hl1 : R32 l1) (hl2 : R32 l2) : Sx Γ (fun t => (h, t)) (KL Γ (fun t => (h, t)) okt_parameters_10 K 10 (lvt_parameters_10 Γ) []) 94 [(0, vA (mg Γ) 21), (1, vI l1), (2, vI l2)] [] (t_parameters_94 k_171 l1 l2) := by
  unfold t_parameters_94
  refine s_aload_n o dX11_parameters_94 rfl 0 rfl ?_
  refine r_tgf vJ rfl o hT tf_wordName tj_wordName (lw_all_tbl q2512) dX11_parameters_95 (fun v1 hv1 => ?_)
  refine r_lstore_n o dX11_parameters_98 rfl rfl ⟨(Nat.ne_of_beq_eq_false rfl), (Nat.ne_of_beq_eq_false rfl), (fun _ => (vA_cat (mg Γ) 21)), ⟨(Nat.ne_of_beq_eq_false rfl), (Nat.ne_of_beq_eq_false rfl), (fun _ => rfl), ⟨(Nat.ne_of_beq_eq_false rfl), (Nat.ne_of_beq_eq_false rfl), (fun _ => rfl), trivial⟩⟩⟩ ?_
  refine s_aload_n o dX11_parameters_99 rfl 1 rfl ?_
  refine s_tga (x := 24) o hT tf_kinds ta_kinds (lw_all_tbl q2517) dX11_parameters_100 ?_
  refine s_iload_n o dX11_parameters_103 rfl 2 rfl ?_
  refine r_tiald o hT tr_kinds hl1 dX11_parameters_104 (fun v2 hv2 => ?_)
  refine s_iconst o dX11_parameters_105 ?_
  refine s_icmp_ne (tgt := 138) o dX11_parameters_106 (by decide) hv2 (r32 rfl) ?_ ?_
  · refine r_to [(0, vA (mg Γ) 21), (1, vI l1), (2, vI l2), (3, vJ v1)] [1, 2, 3, 0] rfl ?_
    exact st_parameters_138 hT o k_171 hk_171 l1 l2 v1 hl1 hl2 hv1
  · refine s_aload_n o dX11_parameters_109 rfl 1 rfl ?_
    refine s_tga (x := 33) o hT tf_giveCounts ta_giveCounts (lw_all_tbl q2526) dX11_parameters_110 ?_
    refine s_iload_n o dX11_parameters_113 rfl 2 rfl ?_
    refine r_tiald o hT tr_giveCounts hl1 dX11_parameters_114 (fun v3 hv3 => ?_)
    refine s_if_ne (tgt := 138) o dX11_parameters_115 (by decide) hv3 ?_ ?_
    · refine r_to [(0, vA (mg Γ) 21), (1, vI l1), (2, vI l2), (3, vJ v1)] [1, 2, 3, 0] rfl ?_
      exact st_parameters_138 hT o k_171 hk_171 l1 l2 v1 hl1 hl2 hv1
    · refine s_aload_n o dX11_parameters_118 rfl 1 rfl ?_
      refine r_tgf vI rfl o hT tf_word tj_word (lw_all_tbl q2510) dX11_parameters_119 (fun v4 hv4 => ?_)
      refine s_iconst o dX11_parameters_122 ?_
      refine s_icmp_ne (tgt := 138) o dX11_parameters_123 (by decide) hv4 (r32 rfl) ?_ ?_
      · refine r_to [(0, vA (mg Γ) 21), (1, vI l1), (2, vI l2), (3, vJ v1)] [1, 2, 3, 0] rfl ?_
        exact st_parameters_138 hT o k_171 hk_171 l1 l2 v1 hl1 hl2 hv1
      · refine s_aload_n o dX11_parameters_126 rfl 1 rfl ?_
        refine r_tgf vI rfl o hT tf_fault tj_fault (lw_all_tbl q2514) dX11_parameters_127 (fun v5 hv5 => ?_)
        refine s_if_ne (tgt := 138) o dX11_parameters_130 (by decide) hv5 ?_ ?_
        · refine r_to [(0, vA (mg Γ) 21), (1, vI l1), (2, vI l2), (3, vJ v1)] [1, 2, 3, 0] rfl ?_
          exact st_parameters_138 hT o k_171 hk_171 l1 l2 v1 hl1 hl2 hv1
        · refine s_aload_n o dX11_parameters_133 rfl 1 rfl ?_
          refine s_cv (d := d + 4) (C := "LazyForgeModel") (As := []) (st := []) o (st_part (mg Γ) (d + 3) h hT) mw_X11_part rfl (Or.inl (lw_all_tbl q3007)) (lw_all_tbl qs72) (lw_all_tbl q3009) (fun t => rc_t o hT t) wt_0 rfl dX11_parameters_134 rfl (rs := fun r => [vI r]) (fun _ => rfl) (fun v6 hv6 => ?_)
          refine s_pop o dX11_parameters_137 rfl ?_
          refine r_to [(0, vA (mg Γ) 21), (1, vI l1), (2, vI l2), (3, vJ v1)] [1, 2, 3, 0] rfl ?_
          exact st_parameters_138 hT o k_171 hk_171 l1 l2 v1 hl1 hl2 hv1
noncomputable def t_parameters_67 {A : Type} (k_171 : Mo TS A) (l1 : Int) (l2 : Int) : Mo TS ((Int × Int) ⊕ A) :=
  bnd (gs 6) fun v1 =>
  if ¬ v1 = 3 then
    t_parameters_94 k_171 l1 l2
  else
    bnd (rd 22 3200 l1) fun v2 =>
    if ¬ v2 = 5 then
      t_parameters_94 k_171 l1 l2
    else
      bnd (gs 7) fun v3 =>
      bnd (t_fail 4 v3) fun _ =>
      t_parameters_94 k_171 l1 l2
theorem st_parameters_67 {Γ : Gm} {h : CH} {d : Nat} (hT : HT h) (o : Ok Γ "LazyForgeModel" cX11_parameters 5 (Option.none : Option Jvm.ClassFile.FieldType) (d + 5)) {A : Type} {K : A → TS → Prop}  (k_171 : Mo TS A) (hk_171 : Sx Γ (fun t => (h, t)) K 171 [] [] (k_171)) (l1 : Int) (l2 : Int) (hl1 : R32 l1) (hl2 : R32 l2) : Sx Γ (fun t => (h, t)) (KL Γ (fun t => (h, t)) okt_parameters_10 K 10 (lvt_parameters_10 Γ) []) 67 [(0, vA (mg Γ) 21), (1, vI l1), (2, vI l2)] [] (t_parameters_67 k_171 l1 l2) := by
  unfold t_parameters_67
  refine s_aload_n o dX11_parameters_67 rfl 0 rfl ?_
  refine r_tgf vI rfl o hT tf_word tj_word (lw_all_tbl q2510) dX11_parameters_68 (fun v1 hv1 => ?_)
  refine s_iconst o dX11_parameters_71 ?_
  refine s_icmp_ne (tgt := 94) o dX11_parameters_72 (by decide) hv1 (r32 rfl) ?_ ?_
  · exact st_parameters_94 hT o k_171 hk_171 l1 l2 hl1 hl2
  · refine s_aload_n o dX11_parameters_75 rfl 0 rfl ?_
    refine s_tga (x := 33) o hT tf_giveCounts ta_giveCounts (lw_all_tbl q2526) dX11_parameters_76 ?_
    refine s_iload_n o dX11_parameters_79 rfl 1 rfl ?_
    refine r_tiald o hT tr_giveCounts hl1 dX11_parameters_80 (fun v2 hv2 => ?_)
    refine s_iconst o dX11_parameters_81 ?_
    refine s_icmp_ne (tgt := 94) o dX11_parameters_82 (by decide) hv2 (r32 rfl) ?_ ?_
    · exact st_parameters_94 hT o k_171 hk_171 l1 l2 hl1 hl2
    · refine s_aload_n o dX11_parameters_85 rfl 0 rfl ?_
      refine s_iconst o dX11_parameters_86 ?_
      refine s_aload_n o dX11_parameters_87 rfl 0 rfl ?_
      refine r_tgf vI rfl o hT tf_wordPlace tj_wordPlace (lw_all_tbl q2511) dX11_parameters_88 (fun v3 hv3 => ?_)
      refine s_cv (d := d + 4) (C := "LazyForgeModel") (As := [vI 4, vI v3]) (st := []) o (st_fail (mg Γ) (d + 4) h hT 4 v3 (r32 rfl) hv3) mw_X11_fail rfl (Or.inl (lw_all_tbl q2975)) (lw_all_tbl qs64) (lw_all_tbl q2977) (fun t => rc_t o hT t) wt_0 rfl dX11_parameters_91 rfl (rs := fun _ => []) (fun _ => rfl) (fun _ _ => ?_)
      exact st_parameters_94 hT o k_171 hk_171 l1 l2 hl1 hl2
noncomputable def t_parameters_35 {A : Type} (k_171 : Mo TS A) (l1 : Int) (l2 : Int) : Mo TS ((Int × Int) ⊕ A) :=
  bnd (gs 6) fun v1 =>
  if ¬ v1 = 3 then
    t_parameters_67 k_171 l1 l2
  else
    bnd (gs 8) fun v2 =>
    bnd (t_isGiven l1 v2) fun v3 =>
    if v3 = 0 then
      t_parameters_67 k_171 l1 l2
    else
      bnd (gs 7) fun v4 =>
      bnd (t_fail 2 v4) fun _ =>
      t_parameters_94 k_171 l1 l2
theorem st_parameters_35 {Γ : Gm} {h : CH} {d : Nat} (hT : HT h) (o : Ok Γ "LazyForgeModel" cX11_parameters 5 (Option.none : Option Jvm.ClassFile.FieldType) (d + 5)) {A : Type} {K : A → TS → Prop}  (k_171 : Mo TS A) (hk_171 : Sx Γ (fun t => (h, t)) K 171 [] [] (k_171)) (l1 : Int) (l2 : Int) (hl1 : R32 l1) (hl2 : R32 l2) : Sx Γ (fun t => (h, t)) (KL Γ (fun t => (h, t)) okt_parameters_10 K 10 (lvt_parameters_10 Γ) []) 35 [(0, vA (mg Γ) 21), (1, vI l1), (2, vI l2)] [] (t_parameters_35 k_171 l1 l2) := by
  unfold t_parameters_35
  refine s_aload_n o dX11_parameters_35 rfl 0 rfl ?_
  refine r_tgf vI rfl o hT tf_word tj_word (lw_all_tbl q2510) dX11_parameters_36 (fun v1 hv1 => ?_)
  refine s_iconst o dX11_parameters_39 ?_
  refine s_icmp_ne (tgt := 67) o dX11_parameters_40 (by decide) hv1 (r32 rfl) ?_ ?_
  · exact st_parameters_67 hT o k_171 hk_171 l1 l2 hl1 hl2
  · refine s_aload_n o dX11_parameters_43 rfl 0 rfl ?_
    refine s_iload_n o dX11_parameters_44 rfl 1 rfl ?_
    refine s_aload_n o dX11_parameters_45 rfl 0 rfl ?_
    refine r_tgf vJ rfl o hT tf_wordName tj_wordName (lw_all_tbl q2512) dX11_parameters_46 (fun v2 hv2 => ?_)
    refine s_cv (d := d + 4) (C := "LazyForgeModel") (As := [vI l1, vJ v2]) (st := []) o (st_isGiven (mg Γ) (d + 4) h hT l1 v2 hl1 hv2) mw_X11_isGiven rfl (Or.inl (lw_all_tbl q3003)) (lw_all_tbl qs71) (lw_all_tbl q3005) (fun t => rc_t o hT t) wt_0 rfl dX11_parameters_49 rfl (rs := fun r => [vI r]) (fun _ => rfl) (fun v3 hv3 => ?_)
    refine s_if_eq (tgt := 67) o dX11_parameters_52 (by decide) (rZ (hv3 _ rfl)) ?_ ?_
    · exact st_parameters_67 hT o k_171 hk_171 l1 l2 hl1 hl2
    · refine s_aload_n o dX11_parameters_55 rfl 0 rfl ?_
      refine s_iconst o dX11_parameters_56 ?_
      refine s_aload_n o dX11_parameters_57 rfl 0 rfl ?_
      refine r_tgf vI rfl o hT tf_wordPlace tj_wordPlace (lw_all_tbl q2511) dX11_parameters_58 (fun v4 hv4 => ?_)
      refine s_cv (d := d + 4) (C := "LazyForgeModel") (As := [vI 2, vI v4]) (st := []) o (st_fail (mg Γ) (d + 4) h hT 2 v4 (r32 rfl) hv4) mw_X11_fail rfl (Or.inl (lw_all_tbl q2975)) (lw_all_tbl qs64) (lw_all_tbl q2977) (fun t => rc_t o hT t) wt_0 rfl dX11_parameters_61 rfl (rs := fun _ => []) (fun _ => rfl) (fun _ _ => ?_)
      refine s_goto (tgt := 94) o dX11_parameters_64 (by decide) ?_
      exact st_parameters_94 hT o k_171 hk_171 l1 l2 hl1 hl2
noncomputable def t_parameters_10b {A : Type} (k_171 : Mo TS A) (l1 : Int) (l2 : Int) : Mo TS ((Int × Int) ⊕ A) :=
  bnd (gs 10) fun v1 =>
  if ¬ v1 = 0 then
    lo k_171
  else
    bnd (gs 6) fun v2 =>
    if v2 = 3 then
      t_parameters_35 k_171 l1 l2
    else
      bnd (rd 22 3200 l1) fun v3 =>
      if l2 ≤ v3 then
        lo k_171
      else
        t_parameters_35 k_171 l1 l2
theorem st_parameters_10b {Γ : Gm} {h : CH} {d : Nat} (hT : HT h) (o : Ok Γ "LazyForgeModel" cX11_parameters 5 (Option.none : Option Jvm.ClassFile.FieldType) (d + 5)) {A : Type} {K : A → TS → Prop} (k_171 : Mo TS A) (hk_171 : Sx Γ (fun t => (h, t)) K 171 [] [] (k_171)) (l1 : Int) (l2 : Int) (hl1 : R32 l1) (hl2 : R32 l2) : Sx Γ (fun t => (h, t)) (KL Γ (fun t => (h, t)) okt_parameters_10 K 10 (lvt_parameters_10 Γ) []) 10 [(0, vA (mg Γ) 21), (1, vI l1), (2, vI l2)] [] (t_parameters_10b k_171 l1 l2) := by
  unfold t_parameters_10b
  refine s_aload_n o dX11_parameters_10 rfl 0 rfl ?_
  refine r_tgf vI rfl o hT tf_fault tj_fault (lw_all_tbl q2514) dX11_parameters_11 (fun v1 hv1 => ?_)
  refine s_if_ne (tgt := 171) o dX11_parameters_14 (by decide) hv1 ?_ ?_
  · refine r_to [] [] rfl ?_
    exact s_lo hk_171
  · refine s_aload_n o dX11_parameters_17 rfl 0 rfl ?_
    refine r_tgf vI rfl o hT tf_word tj_word (lw_all_tbl q2510) dX11_parameters_18 (fun v2 hv2 => ?_)
    refine s_iconst o dX11_parameters_21 ?_
    refine s_icmp_eq (tgt := 35) o dX11_parameters_22 (by decide) hv2 (r32 rfl) ?_ ?_
    · exact st_parameters_35 hT o k_171 hk_171 l1 l2 hl1 hl2
    · refine s_aload_n o dX11_parameters_25 rfl 0 rfl ?_
      refine s_tga (x := 33) o hT tf_giveCounts ta_giveCounts (lw_all_tbl q2526) dX11_parameters_26 ?_
      refine s_iload_n o dX11_parameters_29 rfl 1 rfl ?_
      refine r_tiald o hT tr_giveCounts hl1 dX11_parameters_30 (fun v3 hv3 => ?_)
      refine s_iload_n o dX11_parameters_31 rfl 2 rfl ?_
      refine s_icmp_ge (tgt := 171) o dX11_parameters_32 (by decide) hv3 hl2 ?_ ?_
      · refine r_to [] [] rfl ?_
        exact s_lo hk_171
      · exact st_parameters_35 hT o k_171 hk_171 l1 l2 hl1 hl2
noncomputable def t_parameters_10 {A : Type} (k_171 : Mo TS A) (l1 : Int) (l2 : Int) : Mo TS A := Loop (fun x => t_parameters_10b k_171 x.1 x.2) (l1, l2)
theorem st_parameters_10 {Γ : Gm} {h : CH} {d : Nat} (hT : HT h) (o : Ok Γ "LazyForgeModel" cX11_parameters 5 (Option.none : Option Jvm.ClassFile.FieldType) (d + 5)) {A : Type} {K : A → TS → Prop} (k_171 : Mo TS A) (hk_171 : Sx Γ (fun t => (h, t)) K 171 [] [] (k_171)) (l1 : Int) (l2 : Int) (hl1 : R32 l1) (hl2 : R32 l2) : Sx Γ (fun t => (h, t)) K 10 [(0, vA (mg Γ) 21), (1, vI l1), (2, vI l2)] [] (t_parameters_10 k_171 l1 l2) :=
  s_loop okt_parameters_10 (lvt_parameters_10 Γ) (fun x hx => st_parameters_10b hT o k_171 hk_171 x.1 x.2 hx.1 hx.2) (x := (l1, l2)) ⟨hl1, hl2⟩
noncomputable def t_parameters (l1 : Int) (l2 : Int) : Mo TS Int :=
  bnd (gs 23) fun v1 =>
  bnd (wr 21 3200 l1 v1) fun _ =>
  t_parameters_10
    (pr 0) l1 l2
theorem st_parameters (g : gC) (d : Nat) (h : CH) (hT : HT h) (l1 : Int) (l2 : Int) (hl1 : R32 l1) (hl2 : R32 l2) : SF g yX11_parameters (Cond.code yX11_parameters cX11_parameters 5 (Option.none : Option Jvm.ClassFile.FieldType)) (Option.none : Option Jvm.ClassFile.FieldType) (d + 5) [vA g 21, vI l1, vI l2] (fun t => (h, t)) (t_parameters l1 l2) := by
  refine SF.of (lv := [(0, vA g 21), (1, vI l1), (2, vI l2)]) (by decide) (wt_A (wt_I (wt_I wt_0))) rfl (by simp only [la_A, la_I, la_J, la_0]) (fun Γ hg hnm o => ?_)
  subst hg
  have o : Ok Γ "LazyForgeModel" cX11_parameters 5 (Option.none : Option Jvm.ClassFile.FieldType) (d + 5) := o
  unfold t_parameters
  refine s_aload_n o dX11_parameters_0 rfl 0 rfl ?_
  refine s_tga (x := 32) o hT tf_giveBegins ta_giveBegins (lw_all_tbl q2525) dX11_parameters_1 ?_
  refine s_iload_n o dX11_parameters_4 rfl 1 rfl ?_
  refine s_aload_n o dX11_parameters_5 rfl 0 rfl ?_
  refine r_tgf vI rfl o hT tf_gives tj_gives (lw_all_tbl q2527) dX11_parameters_6 (fun v1 hv1 => ?_)
  refine r_tiast o hT tr_giveBegins hl1 hv1 dX11_parameters_9 ?_
  refine st_parameters_10 hT o _ ?_ l1 l2 hl1 hl2
  · exact s_vret o rfl dX11_parameters_171 (fun _ hh => hh)
theorem dX11_atom_0 : decode cX11_atom 0 = .ok (.aload_n 0, 1) := by decide +kernel
theorem dX11_atom_1 : decode cX11_atom 1 = .ok (.bipush 40, 2) := by decide +kernel
theorem dX11_atom_3 : decode cX11_atom 3 = .ok (.invokevirtual 383, 3) := by decide +kernel
theorem dX11_atom_6 : decode cX11_atom 6 = .ok (.ifCond .eq 21, 3) := by decide +kernel
theorem dX11_atom_9 : decode cX11_atom 9 = .ok (.aload_n 0, 1) := by decide +kernel
theorem dX11_atom_10 : decode cX11_atom 10 = .ok (.invokevirtual 366, 3) := by decide +kernel
theorem dX11_atom_13 : decode cX11_atom 13 = .ok (.aload_n 0, 1) := by decide +kernel
theorem dX11_atom_14 : decode cX11_atom 14 = .ok (.iconst 1, 1) := by decide +kernel
theorem dX11_atom_15 : decode cX11_atom 15 = .ok (.invokevirtual 359, 3) := by decide +kernel
theorem dX11_atom_18 : decode cX11_atom 18 = .ok (.aload_n 0, 1) := by decide +kernel
theorem dX11_atom_19 : decode cX11_atom 19 = .ok (.iconst 1, 1) := by decide +kernel
theorem dX11_atom_20 : decode cX11_atom 20 = .ok (.iconst 0, 1) := by decide +kernel
theorem dX11_atom_21 : decode cX11_atom 21 = .ok (.iconst 0, 1) := by decide +kernel
theorem dX11_atom_22 : decode cX11_atom 22 = .ok (.invokevirtual 372, 3) := by decide +kernel
theorem dX11_atom_25 : decode cX11_atom 25 = .ok (.iconst 0, 1) := by decide +kernel
theorem dX11_atom_26 : decode cX11_atom 26 = .ok (.ireturn, 1) := by decide +kernel
theorem dX11_atom_27 : decode cX11_atom 27 = .ok (.aload_n 0, 1) := by decide +kernel
theorem dX11_atom_28 : decode cX11_atom 28 = .ok (.getfield 286, 3) := by decide +kernel
theorem dX11_atom_31 : decode cX11_atom 31 = .ok (.iconst 4, 1) := by decide +kernel
theorem dX11_atom_32 : decode cX11_atom 32 = .ok (.if_icmp .ne 14, 3) := by decide +kernel
theorem dX11_atom_35 : decode cX11_atom 35 = .ok (.aload_n 0, 1) := by decide +kernel
theorem dX11_atom_36 : decode cX11_atom 36 = .ok (.aload_n 0, 1) := by decide +kernel
theorem dX11_atom_37 : decode cX11_atom 37 = .ok (.getfield 278, 3) := by decide +kernel
theorem dX11_atom_40 : decode cX11_atom 40 = .ok (.invokevirtual 396, 3) := by decide +kernel
theorem dX11_atom_43 : decode cX11_atom 43 = .ok (.goto 4, 3) := by decide +kernel
theorem dX11_atom_46 : decode cX11_atom 46 = .ok (.iconst 0, 1) := by decide +kernel
theorem dX11_atom_47 : decode cX11_atom 47 = .ok (.istore_n 1, 1) := by decide +kernel
theorem dX11_atom_48 : decode cX11_atom 48 = .ok (.aload_n 0, 1) := by decide +kernel
theorem dX11_atom_49 : decode cX11_atom 49 = .ok (.getfield 286, 3) := by decide +kernel
theorem dX11_atom_52 : decode cX11_atom 52 = .ok (.iconst 4, 1) := by decide +kernel
theorem dX11_atom_53 : decode cX11_atom 53 = .ok (.if_icmp .ne 16, 3) := by decide +kernel
theorem dX11_atom_56 : decode cX11_atom 56 = .ok (.iload_n 1, 1) := by decide +kernel
theorem dX11_atom_57 : decode cX11_atom 57 = .ok (.ifCond .lt 12, 3) := by decide +kernel
theorem dX11_atom_60 : decode cX11_atom 60 = .ok (.aload_n 0, 1) := by decide +kernel
theorem dX11_atom_61 : decode cX11_atom 61 = .ok (.getfield 62, 3) := by decide +kernel
theorem dX11_atom_64 : decode cX11_atom 64 = .ok (.iload_n 1, 1) := by decide +kernel
theorem dX11_atom_65 : decode cX11_atom 65 = .ok (.iaload, 1) := by decide +kernel
theorem dX11_atom_66 : decode cX11_atom 66 = .ok (.ifCond .gt 10, 3) := by decide +kernel
theorem dX11_atom_69 : decode cX11_atom 69 = .ok (.aload_n 0, 1) := by decide +kernel
theorem dX11_atom_70 : decode cX11_atom 70 = .ok (.invokevirtual 399, 3) := by decide +kernel
theorem dX11_atom_73 : decode cX11_atom 73 = .ok (.ifCond .ne 10, 3) := by decide +kernel
theorem dX11_atom_76 : decode cX11_atom 76 = .ok (.aload_n 0, 1) := by decide +kernel
theorem dX11_atom_77 : decode cX11_atom 77 = .ok (.invokevirtual 324, 3) := by decide +kernel
theorem dX11_atom_80 : decode cX11_atom 80 = .ok (.goto 16, 3) := by decide +kernel
theorem dX11_atom_83 : decode cX11_atom 83 = .ok (.iload_n 1, 1) := by decide +kernel
theorem dX11_atom_84 : decode cX11_atom 84 = .ok (.ifCond .ge 12, 3) := by decide +kernel
theorem dX11_atom_87 : decode cX11_atom 87 = .ok (.aload_n 0, 1) := by decide +kernel
theorem dX11_atom_88 : decode cX11_atom 88 = .ok (.iconst 3, 1) := by decide +kernel
theorem dX11_atom_89 : decode cX11_atom 89 = .ok (.aload_n 0, 1) := by decide +kernel
theorem dX11_atom_90 : decode cX11_atom 90 = .ok (.getfield 275, 3) := by decide +kernel
theorem dX11_atom_93 : decode cX11_atom 93 = .ok (.invokevirtual 317, 3) := by decide +kernel
theorem dX11_atom_96 : decode cX11_atom 96 = .ok (.aload_n 0, 1) := by decide +kernel
theorem dX11_atom_97 : decode cX11_atom 97 = .ok (.getfield 311, 3) := by decide +kernel
theorem dX11_atom_100 : decode cX11_atom 100 = .ok (.ifCond .gt 10, 3) := by decide +kernel
theorem dX11_atom_103 : decode cX11_atom 103 = .ok (.aload_n 0, 1) := by decide +kernel
theorem dX11_atom_104 : decode cX11_atom 104 = .ok (.invokevirtual 355, 3) := by decide +kernel
theorem dX11_atom_107 : decode cX11_atom 107 = .ok (.ifCond .ne 5, 3) := by decide +kernel
theorem dX11_atom_110 : decode cX11_atom 110 = .ok (.iconst 0, 1) := by decide +kernel
theorem dX11_atom_111 : decode cX11_atom 111 = .ok (.ireturn, 1) := by decide +kernel
theorem dX11_atom_112 : decode cX11_atom 112 = .ok (.aload_n 0, 1) := by decide +kernel
theorem dX11_atom_113 : decode cX11_atom 113 = .ok (.aload_n 0, 1) := by decide +kernel
theorem dX11_atom_114 : decode cX11_atom 114 = .ok (.getfield 286, 3) := by decide +kernel
theorem dX11_atom_117 : decode cX11_atom 117 = .ok (.iconst 3, 1) := by decide +kernel
theorem dX11_atom_118 : decode cX11_atom 118 = .ok (.if_icmp .ne 8, 3) := by decide +kernel
theorem dX11_atom_121 : decode cX11_atom 121 = .ok (.bipush 8, 2) := by decide +kernel
theorem dX11_atom_123 : decode cX11_atom 123 = .ok (.goto 31, 3) := by decide +kernel
theorem dX11_atom_126 : decode cX11_atom 126 = .ok (.aload_n 0, 1) := by decide +kernel
theorem dX11_atom_127 : decode cX11_atom 127 = .ok (.getfield 286, 3) := by decide +kernel
theorem dX11_atom_130 : decode cX11_atom 130 = .ok (.iconst 4, 1) := by decide +kernel
theorem dX11_atom_131 : decode cX11_atom 131 = .ok (.if_icmp .ne 8, 3) := by decide +kernel
theorem dX11_atom_134 : decode cX11_atom 134 = .ok (.bipush 9, 2) := by decide +kernel
theorem dX11_atom_136 : decode cX11_atom 136 = .ok (.goto 18, 3) := by decide +kernel
theorem dX11_atom_139 : decode cX11_atom 139 = .ok (.aload_n 0, 1) := by decide +kernel
theorem dX11_atom_140 : decode cX11_atom 140 = .ok (.getfield 286, 3) := by decide +kernel
theorem dX11_atom_143 : decode cX11_atom 143 = .ok (.iconst 2, 1) := by decide +kernel
theorem dX11_atom_144 : decode cX11_atom 144 = .ok (.if_icmp .ne 8, 3) := by decide +kernel
theorem dX11_atom_147 : decode cX11_atom 147 = .ok (.bipush 10, 2) := by decide +kernel
theorem dX11_atom_149 : decode cX11_atom 149 = .ok (.goto 5, 3) := by decide +kernel
theorem dX11_atom_152 : decode cX11_atom 152 = .ok (.bipush 11, 2) := by decide +kernel
theorem dX11_atom_154 : decode cX11_atom 154 = .ok (.invokevirtual 369, 3) := by decide +kernel
theorem dX11_atom_157 : decode cX11_atom 157 = .ok (.istore_n 2, 1) := by decide +kernel
theorem dX11_atom_158 : decode cX11_atom 158 = .ok (.aload_n 0, 1) := by decide +kernel
theorem dX11_atom_159 : decode cX11_atom 159 = .ok (.getfield 37, 3) := by decide +kernel
theorem dX11_atom_162 : decode cX11_atom 162 = .ok (.iload_n 2, 1) := by decide +kernel
theorem dX11_atom_163 : decode cX11_atom 163 = .ok (.aload_n 0, 1) := by decide +kernel
theorem dX11_atom_164 : decode cX11_atom 164 = .ok (.getfield 278, 3) := by decide +kernel
theorem dX11_atom_167 : decode cX11_atom 167 = .ok (.lastore, 1) := by decide +kernel
theorem dX11_atom_168 : decode cX11_atom 168 = .ok (.aload_n 0, 1) := by decide +kernel
theorem dX11_atom_169 : decode cX11_atom 169 = .ok (.getfield 31, 3) := by decide +kernel
theorem dX11_atom_172 : decode cX11_atom 172 = .ok (.iload_n 2, 1) := by decide +kernel
theorem dX11_atom_173 : decode cX11_atom 173 = .ok (.aload_n 0, 1) := by decide +kernel
theorem dX11_atom_174 : decode cX11_atom 174 = .ok (.getfield 286, 3) := by decide +kernel
theorem dX11_atom_177 : decode cX11_atom 177 = .ok (.iconst 4, 1) := by decide +kernel
theorem dX11_atom_178 : decode cX11_atom 178 = .ok (.if_icmp .ne 7, 3) := by decide +kernel
theorem dX11_atom_181 : decode cX11_atom 181 = .ok (.iload_n 1, 1) := by decide +kernel
theorem dX11_atom_182 : decode cX11_atom 182 = .ok (.goto 7, 3) := by decide +kernel
theorem dX11_atom_185 : decode cX11_atom 185 = .ok (.aload_n 0, 1) := by decide +kernel
theorem dX11_atom_186 : decode cX11_atom 186 = .ok (.getfield 295, 3) := by decide +kernel
theorem dX11_atom_189 : decode cX11_atom 189 = .ok (.iastore, 1) := by decide +kernel
theorem dX11_atom_190 : decode cX11_atom 190 = .ok (.aload_n 0, 1) := by decide +kernel
theorem dX11_atom_191 : decode cX11_atom 191 = .ok (.invokevirtual 321, 3) := by decide +kernel
theorem dX11_atom_194 : decode cX11_atom 194 = .ok (.aload_n 0, 1) := by decide +kernel
theorem dX11_atom_195 : decode cX11_atom 195 = .ok (.iload_n 2, 1) := by decide +kernel
theorem dX11_atom_196 : decode cX11_atom 196 = .ok (.invokevirtual 402, 3) := by decide +kernel
theorem dX11_atom_199 : decode cX11_atom 199 = .ok (.iconst 1, 1) := by decide +kernel
theorem dX11_atom_200 : decode cX11_atom 200 = .ok (.ireturn, 1) := by decide +kernel
theorem mw_X11_atom : MW yX11_atom (Cond.code yX11_atom cX11_atom 3 (Option.some Jvm.ClassFile.FieldType.boolean)) cX11_atom 3 (Option.some Jvm.ClassFile.FieldType.boolean) 0 := ⟨rfl, ⟨(lw_all_tbl q3066), rfl, (lw_all_tbl q173)⟩, rfl, ⟨by decide, by decide⟩, by decide +kernel⟩
noncomputable def t_atom_189  (l2 : Int) (k0 : Int) (k1 : Int) : Mo TS Int :=
  bnd (wr 18 3200 k1 k0) fun _ =>
  bnd (t_next) fun _ =>
  bnd (t_operand l2) fun _ =>
  pr 1
theorem st_atom_189 {Γ : Gm} {h : CH} {d : Nat} (hT : HT h) (o : Ok Γ "LazyForgeModel" cX11_atom 3 (Option.some Jvm.ClassFile.FieldType.boolean) (d + 5))   (l2 : Int) (k0 : Int) (k1 : Int) (hl2 : R32 l2) (hk0 : R32 k0) (hk1 : R32 k1) : Sx Γ (fun t => (h, t)) (fun a s => mt Γ = (0, a, ((h, s) : Wd))) 189 [(0, vA (mg Γ) 21), (2, vI l2)] [vI k0, vI k1, vA (mg Γ) 29] (t_atom_189 l2 k0 k1) := by
  unfold t_atom_189
  refine r_tiast o hT tr_values hk1 hk0 dX11_atom_189 ?_
  refine s_aload_n o dX11_atom_190 rfl 0 rfl ?_
  refine s_cv (d := d + 4) (C := "LazyForgeModel") (As := []) (st := []) o (st_next (mg Γ) (d + 1) h hT) mw_X11_next rfl (Or.inl (lw_all_tbl q2932)) (lw_all_tbl qs57) (lw_all_tbl q2934) (fun t => rc_t o hT t) wt_0 rfl dX11_atom_191 rfl (rs := fun _ => []) (fun _ => rfl) (fun _ _ => ?_)
  refine s_aload_n o dX11_atom_194 rfl 0 rfl ?_
  refine s_iload_n o dX11_atom_195 rfl 1 rfl ?_
  refine s_cv (d := d + 4) (C := "LazyForgeModel") (As := [vI l2]) (st := []) o (st_operand (mg Γ) (d + 4) h hT l2 hl2) mw_X11_operand rfl (Or.inl (lw_all_tbl q3067)) (lw_all_tbl qs87) (lw_all_tbl q3069) (fun t => rc_t o hT t) wt_0 rfl dX11_atom_196 rfl (rs := fun _ => []) (fun _ => rfl) (fun _ _ => ?_)
  refine s_iconst o dX11_atom_199 ?_
  exact s_iret o rfl i_boolean (Or.inr rfl) dX11_atom_200 (fun _ hh => hh)
noncomputable def t_atom_154  (l1 : Int) (k0 : Int) : Mo TS Int :=
  bnd (t_node k0) fun v1 =>
  bnd (gs 8) fun v2 =>
  bnd (wr 20 3200 v1 v2) fun _ =>
  bnd (gs 6) fun v3 =>
  if ¬ v3 = 4 then
    bnd (gs 9) fun v4 =>
    t_atom_189 v1 v4 v1
  else
    t_atom_189 v1 l1 v1
theorem st_atom_154 {Γ : Gm} {h : CH} {d : Nat} (hT : HT h) (o : Ok Γ "LazyForgeModel" cX11_atom 3 (Option.some Jvm.ClassFile.FieldType.boolean) (d + 5))   (l1 : Int) (k0 : Int) (hl1 : R32 l1) (hk0 : R32 k0) : Sx Γ (fun t => (h, t)) (fun a s => mt Γ = (0, a, ((h, s) : Wd))) 154 [(0, vA (mg Γ) 21), (1, vI l1)] [vI k0, vA (mg Γ) 21] (t_atom_154 l1 k0) := by
  unfold t_atom_154
  refine s_cv (d := d + 4) (C := "LazyForgeModel") (As := [vI k0]) (st := []) o (st_node (mg Γ) (d + 4) h hT k0 hk0) mw_X11_node rfl (Or.inl (lw_all_tbl q2995)) (lw_all_tbl qs69) (lw_all_tbl q2997) (fun t => rc_t o hT t) wt_0 rfl dX11_atom_154 rfl (rs := fun r => [vI r]) (fun _ => rfl) (fun v1 hv1 => ?_)
  refine r_istore_n o dX11_atom_157 rfl rfl ⟨(Nat.ne_of_beq_eq_false rfl), (fun _ => (vA_cat (mg Γ) 21)), ⟨(Nat.ne_of_beq_eq_false rfl), (fun _ => rfl), trivial⟩⟩ ?_
  refine s_aload_n o dX11_atom_158 rfl 1 rfl ?_
  refine s_tga (x := 31) o hT tf_nodeNames ta_nodeNames (lw_all_tbl q2524) dX11_atom_159 ?_
  refine s_iload_n o dX11_atom_162 rfl 0 rfl ?_
  refine s_aload_n o dX11_atom_163 rfl 1 rfl ?_
  refine r_tgf vJ rfl o hT tf_wordName tj_wordName (lw_all_tbl q2512) dX11_atom_164 (fun v2 hv2 => ?_)
  refine r_tlast o hT tr_nodeNames (hv1 _ rfl) hv2 dX11_atom_167 ?_
  refine s_aload_n o dX11_atom_168 rfl 1 rfl ?_
  refine s_tga (x := 29) o hT tf_values ta_values (lw_all_tbl q2522) dX11_atom_169 ?_
  refine s_iload_n o dX11_atom_172 rfl 0 rfl ?_
  refine s_aload_n o dX11_atom_173 rfl 1 rfl ?_
  refine r_tgf vI rfl o hT tf_word tj_word (lw_all_tbl q2510) dX11_atom_174 (fun v3 hv3 => ?_)
  refine s_iconst o dX11_atom_177 ?_
  refine s_icmp_ne (tgt := 185) o dX11_atom_178 (by decide) hv3 (r32 rfl) ?_ ?_
  · refine s_aload_n o dX11_atom_185 rfl 1 rfl ?_
    refine r_tgf vI rfl o hT tf_wordNumber tj_wordNumber (lw_all_tbl q2513) dX11_atom_186 (fun v4 hv4 => ?_)
    refine r_to [(0, vA (mg Γ) 21), (2, vI v1)] [1, 0] rfl ?_
    exact st_atom_189 hT o v1 v4 v1 (hv1 _ rfl) hv4 (hv1 _ rfl)
  · refine s_iload_n o dX11_atom_181 rfl 2 rfl ?_
    refine s_goto (tgt := 189) o dX11_atom_182 (by decide) ?_
    refine r_to [(0, vA (mg Γ) 21), (2, vI v1)] [1, 0] rfl ?_
    exact st_atom_189 hT o v1 l1 v1 (hv1 _ rfl) hl1 (hv1 _ rfl)
noncomputable def t_atom_96  (l1 : Int) : Mo TS Int :=
  bnd (gs 10) fun v1 =>
  if 0 < v1 then
    pr 0
  else
    bnd (t_part) fun v2 =>
    if ¬ v2 = 0 then
      bnd (gs 6) fun v3 =>
      if ¬ v3 = 3 then
        bnd (gs 6) fun v4 =>
        if ¬ v4 = 4 then
          bnd (gs 6) fun v5 =>
          if ¬ v5 = 2 then
            t_atom_154 l1 11
          else
            t_atom_154 l1 10
        else
          t_atom_154 l1 9
      else
        t_atom_154 l1 8
    else
      pr 0
theorem st_atom_96 {Γ : Gm} {h : CH} {d : Nat} (hT : HT h) (o : Ok Γ "LazyForgeModel" cX11_atom 3 (Option.some Jvm.ClassFile.FieldType.boolean) (d + 5))   (l1 : Int) (hl1 : R32 l1) : Sx Γ (fun t => (h, t)) (fun a s => mt Γ = (0, a, ((h, s) : Wd))) 96 [(0, vA (mg Γ) 21), (1, vI l1)] [] (t_atom_96 l1) := by
  unfold t_atom_96
  refine s_aload_n o dX11_atom_96 rfl 0 rfl ?_
  refine r_tgf vI rfl o hT tf_fault tj_fault (lw_all_tbl q2514) dX11_atom_97 (fun v1 hv1 => ?_)
  refine s_if_gt (tgt := 110) o dX11_atom_100 (by decide) hv1 ?_ ?_
  · refine s_iconst o dX11_atom_110 ?_
    exact s_iret o rfl i_boolean (Or.inl rfl) dX11_atom_111 (fun _ hh => hh)
  · refine s_aload_n o dX11_atom_103 rfl 0 rfl ?_
    refine s_cv (d := d + 4) (C := "LazyForgeModel") (As := []) (st := []) o (st_part (mg Γ) (d + 3) h hT) mw_X11_part rfl (Or.inl (lw_all_tbl q3007)) (lw_all_tbl qs72) (lw_all_tbl q3009) (fun t => rc_t o hT t) wt_0 rfl dX11_atom_104 rfl (rs := fun r => [vI r]) (fun _ => rfl) (fun v2 hv2 => ?_)
    refine s_if_ne (tgt := 112) o dX11_atom_107 (by decide) (rZ (hv2 _ rfl)) ?_ ?_
    · refine s_aload_n o dX11_atom_112 rfl 0 rfl ?_
      refine s_aload_n o dX11_atom_113 rfl 0 rfl ?_
      refine r_tgf vI rfl o hT tf_word tj_word (lw_all_tbl q2510) dX11_atom_114 (fun v3 hv3 => ?_)
      refine s_iconst o dX11_atom_117 ?_
      refine s_icmp_ne (tgt := 126) o dX11_atom_118 (by decide) hv3 (r32 rfl) ?_ ?_
      · refine s_aload_n o dX11_atom_126 rfl 0 rfl ?_
        refine r_tgf vI rfl o hT tf_word tj_word (lw_all_tbl q2510) dX11_atom_127 (fun v4 hv4 => ?_)
        refine s_iconst o dX11_atom_130 ?_
        refine s_icmp_ne (tgt := 139) o dX11_atom_131 (by decide) hv4 (r32 rfl) ?_ ?_
        · refine s_aload_n o dX11_atom_139 rfl 0 rfl ?_
          refine r_tgf vI rfl o hT tf_word tj_word (lw_all_tbl q2510) dX11_atom_140 (fun v5 hv5 => ?_)
          refine s_iconst o dX11_atom_143 ?_
          refine s_icmp_ne (tgt := 152) o dX11_atom_144 (by decide) hv5 (r32 rfl) ?_ ?_
          · refine s_bipush o dX11_atom_152 rfl ?_
            exact st_atom_154 hT o l1 11 hl1 (r32 rfl)
          · refine s_bipush o dX11_atom_147 rfl ?_
            refine s_goto (tgt := 154) o dX11_atom_149 (by decide) ?_
            exact st_atom_154 hT o l1 10 hl1 (r32 rfl)
        · refine s_bipush o dX11_atom_134 rfl ?_
          refine s_goto (tgt := 154) o dX11_atom_136 (by decide) ?_
          exact st_atom_154 hT o l1 9 hl1 (r32 rfl)
      · refine s_bipush o dX11_atom_121 rfl ?_
        refine s_goto (tgt := 154) o dX11_atom_123 (by decide) ?_
        exact st_atom_154 hT o l1 8 hl1 (r32 rfl)
    · refine s_iconst o dX11_atom_110 ?_
      exact s_iret o rfl i_boolean (Or.inl rfl) dX11_atom_111 (fun _ hh => hh)
noncomputable def t_atom_76  (l1 : Int) : Mo TS Int :=
  bnd (t_wrong) fun _ =>
  t_atom_96 l1
theorem st_atom_76 {Γ : Gm} {h : CH} {d : Nat} (hT : HT h) (o : Ok Γ "LazyForgeModel" cX11_atom 3 (Option.some Jvm.ClassFile.FieldType.boolean) (d + 5))   (l1 : Int) (hl1 : R32 l1) : Sx Γ (fun t => (h, t)) (fun a s => mt Γ = (0, a, ((h, s) : Wd))) 76 [(0, vA (mg Γ) 21), (1, vI l1)] [] (t_atom_76 l1) := by
  unfold t_atom_76
  refine s_aload_n o dX11_atom_76 rfl 0 rfl ?_
  refine s_cv (d := d + 4) (C := "LazyForgeModel") (As := []) (st := []) o (st_wrong (mg Γ) (d + 3) h hT) mw_X11_wrong rfl (Or.inl (lw_all_tbl q2983)) (lw_all_tbl qs66) (lw_all_tbl q2985) (fun t => rc_t o hT t) wt_0 rfl dX11_atom_77 rfl (rs := fun _ => []) (fun _ => rfl) (fun _ _ => ?_)
  refine s_goto (tgt := 96) o dX11_atom_80 (by decide) ?_
  exact st_atom_96 hT o l1 hl1
noncomputable def t_atom_69  (l1 : Int) : Mo TS Int :=
  bnd (t_isAtom) fun v1 =>
  if ¬ v1 = 0 then
    if 0 ≤ l1 then
      t_atom_96 l1
    else
      bnd (gs 7) fun v2 =>
      bnd (t_fail 3 v2) fun _ =>
      t_atom_96 l1
  else
    t_atom_76 l1
theorem st_atom_69 {Γ : Gm} {h : CH} {d : Nat} (hT : HT h) (o : Ok Γ "LazyForgeModel" cX11_atom 3 (Option.some Jvm.ClassFile.FieldType.boolean) (d + 5))   (l1 : Int) (hl1 : R32 l1) : Sx Γ (fun t => (h, t)) (fun a s => mt Γ = (0, a, ((h, s) : Wd))) 69 [(0, vA (mg Γ) 21), (1, vI l1)] [] (t_atom_69 l1) := by
  unfold t_atom_69
  refine s_aload_n o dX11_atom_69 rfl 0 rfl ?_
  refine s_cv (d := d + 4) (C := "LazyForgeModel") (As := []) (st := []) o (st_isAtom (mg Γ) (d + 3) h hT) mw_X11_isAtom rfl (Or.inl (lw_all_tbl q3059)) (lw_all_tbl qs85) (lw_all_tbl q3061) (fun t => rc_t o hT t) wt_0 rfl dX11_atom_70 rfl (rs := fun r => [vI r]) (fun _ => rfl) (fun v1 hv1 => ?_)
  refine s_if_ne (tgt := 83) o dX11_atom_73 (by decide) (rZ (hv1 _ rfl)) ?_ ?_
  · refine s_iload_n o dX11_atom_83 rfl 1 rfl ?_
    refine s_if_ge (tgt := 96) o dX11_atom_84 (by decide) hl1 ?_ ?_
    · exact st_atom_96 hT o l1 hl1
    · refine s_aload_n o dX11_atom_87 rfl 0 rfl ?_
      refine s_iconst o dX11_atom_88 ?_
      refine s_aload_n o dX11_atom_89 rfl 0 rfl ?_
      refine r_tgf vI rfl o hT tf_wordPlace tj_wordPlace (lw_all_tbl q2511) dX11_atom_90 (fun v2 hv2 => ?_)
      refine s_cv (d := d + 4) (C := "LazyForgeModel") (As := [vI 3, vI v2]) (st := []) o (st_fail (mg Γ) (d + 4) h hT 3 v2 (r32 rfl) hv2) mw_X11_fail rfl (Or.inl (lw_all_tbl q2975)) (lw_all_tbl qs64) (lw_all_tbl q2977) (fun t => rc_t o hT t) wt_0 rfl dX11_atom_93 rfl (rs := fun _ => []) (fun _ => rfl) (fun _ _ => ?_)
      exact st_atom_96 hT o l1 hl1
  · exact st_atom_76 hT o l1 hl1
noncomputable def t_atom_47  (k0 : Int) : Mo TS Int :=
  bnd (gs 6) fun v1 =>
  if ¬ v1 = 4 then
    t_atom_69 k0
  else
    if k0 < 0 then
      t_atom_69 k0
    else
      bnd (rd 33 30 k0) fun v2 =>
      if 0 < v2 then
        t_atom_76 k0
      else
        t_atom_69 k0
theorem st_atom_47 {Γ : Gm} {h : CH} {d : Nat} (hT : HT h) (o : Ok Γ "LazyForgeModel" cX11_atom 3 (Option.some Jvm.ClassFile.FieldType.boolean) (d + 5))   (k0 : Int) (hk0 : R32 k0) : Sx Γ (fun t => (h, t)) (fun a s => mt Γ = (0, a, ((h, s) : Wd))) 47 [(0, vA (mg Γ) 21)] [vI k0] (t_atom_47 k0) := by
  unfold t_atom_47
  refine r_istore_n o dX11_atom_47 rfl rfl ⟨(Nat.ne_of_beq_eq_false rfl), (fun _ => (vA_cat (mg Γ) 21)), trivial⟩ ?_
  refine s_aload_n o dX11_atom_48 rfl 1 rfl ?_
  refine r_tgf vI rfl o hT tf_word tj_word (lw_all_tbl q2510) dX11_atom_49 (fun v1 hv1 => ?_)
  refine s_iconst o dX11_atom_52 ?_
  refine s_icmp_ne (tgt := 69) o dX11_atom_53 (by decide) hv1 (r32 rfl) ?_ ?_
  · refine r_to [(0, vA (mg Γ) 21), (1, vI k0)] [1, 0] rfl ?_
    exact st_atom_69 hT o k0 hk0
  · refine s_iload_n o dX11_atom_56 rfl 0 rfl ?_
    refine s_if_lt (tgt := 69) o dX11_atom_57 (by decide) hk0 ?_ ?_
    · refine r_to [(0, vA (mg Γ) 21), (1, vI k0)] [1, 0] rfl ?_
      exact st_atom_69 hT o k0 hk0
    · refine s_aload_n o dX11_atom_60 rfl 1 rfl ?_
      refine s_tga (x := 39) o hT tf_fieldCounts ta_fieldCounts (lw_all_tbl q2537) dX11_atom_61 ?_
      refine s_iload_n o dX11_atom_64 rfl 0 rfl ?_
      refine r_tiald o hT tr_fieldCounts hk0 dX11_atom_65 (fun v2 hv2 => ?_)
      refine s_if_gt (tgt := 76) o dX11_atom_66 (by decide) hv2 ?_ ?_
      · refine r_to [(0, vA (mg Γ) 21), (1, vI k0)] [1, 0] rfl ?_
        exact st_atom_76 hT o k0 hk0
      · refine r_to [(0, vA (mg Γ) 21), (1, vI k0)] [1, 0] rfl ?_
        exact st_atom_69 hT o k0 hk0
noncomputable def t_atom : Mo TS Int :=
  bnd (t_isSign 40) fun v1 =>
  if v1 = 0 then
    bnd (gs 6) fun v2 =>
    if ¬ v2 = 4 then
      t_atom_47 0
    else
      bnd (gs 8) fun v3 =>
      bnd (t_findConstructor v3) fun v4 =>
      t_atom_47 v4
  else
    bnd (t_opens) fun _ =>
    bnd (t_accept 1) fun _ =>
    bnd (t_pile 1 0 0) fun _ =>
    pr 0
theorem st_atom (g : gC) (d : Nat) (h : CH) (hT : HT h) : SF g yX11_atom (Cond.code yX11_atom cX11_atom 3 (Option.some Jvm.ClassFile.FieldType.boolean)) (Option.some Jvm.ClassFile.FieldType.boolean) (d + 5) [vA g 21] (fun t => (h, t)) (t_atom) := by
  refine SF.of (lv := [(0, vA g 21)]) (by decide) (wt_A wt_0) rfl (by simp only [la_A, la_I, la_J, la_0]) (fun Γ hg hnm o => ?_)
  subst hg
  have o : Ok Γ "LazyForgeModel" cX11_atom 3 (Option.some Jvm.ClassFile.FieldType.boolean) (d + 5) := o
  unfold t_atom
  refine s_aload_n o dX11_atom_0 rfl 0 rfl ?_
  refine s_bipush o dX11_atom_1 rfl ?_
  refine s_cv (d := d + 4) (C := "LazyForgeModel") (As := [vI 40]) (st := []) o (st_isSign (mg Γ) (d + 4) h hT 40 (r32 rfl)) mw_X11_isSign rfl (Or.inl (lw_all_tbl q2987)) (lw_all_tbl qs67) (lw_all_tbl q2989) (fun t => rc_t o hT t) wt_0 rfl dX11_atom_3 rfl (rs := fun r => [vI r]) (fun _ => rfl) (fun v1 hv1 => ?_)
  refine s_if_eq (tgt := 27) o dX11_atom_6 (by decide) (rZ (hv1 _ rfl)) ?_ ?_
  · refine s_aload_n o dX11_atom_27 rfl 0 rfl ?_
    refine r_tgf vI rfl o hT tf_word tj_word (lw_all_tbl q2510) dX11_atom_28 (fun v2 hv2 => ?_)
    refine s_iconst o dX11_atom_31 ?_
    refine s_icmp_ne (tgt := 46) o dX11_atom_32 (by decide) hv2 (r32 rfl) ?_ ?_
    · refine s_iconst o dX11_atom_46 ?_
      exact st_atom_47 hT o 0 (r32 rfl)
    · refine s_aload_n o dX11_atom_35 rfl 0 rfl ?_
      refine s_aload_n o dX11_atom_36 rfl 0 rfl ?_
      refine r_tgf vJ rfl o hT tf_wordName tj_wordName (lw_all_tbl q2512) dX11_atom_37 (fun v3 hv3 => ?_)
      refine s_cv (d := d + 4) (C := "LazyForgeModel") (As := [vJ v3]) (st := []) o (st_findConstructor (mg Γ) (d + 4) h hT v3 hv3) mw_X11_findConstructor rfl (Or.inl (lw_all_tbl q2971)) (lw_all_tbl qs63) (lw_all_tbl q2973) (fun t => rc_t o hT t) wt_0 rfl dX11_atom_40 rfl (rs := fun r => [vI r]) (fun _ => rfl) (fun v4 hv4 => ?_)
      refine s_goto (tgt := 47) o dX11_atom_43 (by decide) ?_
      exact st_atom_47 hT o v4 (hv4 _ rfl)
  · refine s_aload_n o dX11_atom_9 rfl 0 rfl ?_
    refine s_cv (d := d + 4) (C := "LazyForgeModel") (As := []) (st := []) o (st_opens (mg Γ) (d + 2) h hT) mw_X11_opens rfl (Or.inl (lw_all_tbl q3031)) (lw_all_tbl qs78) (lw_all_tbl q3033) (fun t => rc_t o hT t) wt_0 rfl dX11_atom_10 rfl (rs := fun _ => []) (fun _ => rfl) (fun _ _ => ?_)
    refine s_aload_n o dX11_atom_13 rfl 0 rfl ?_
    refine s_iconst o dX11_atom_14 ?_
    refine s_cv (d := d + 4) (C := "LazyForgeModel") (As := [vI 1]) (st := []) o (st_accept (mg Γ) d h hT 1 (Or.inr rfl)) mw_X11_accept rfl (Or.inl (lw_all_tbl q2979)) (lw_all_tbl qs65) (lw_all_tbl q2981) (fun t => rc_t o hT t) wt_0 rfl dX11_atom_15 rfl (rs := fun _ => []) (fun _ => rfl) (fun _ _ => ?_)
    refine s_aload_n o dX11_atom_18 rfl 0 rfl ?_
    refine s_iconst o dX11_atom_19 ?_
    refine s_iconst o dX11_atom_20 ?_
    refine s_iconst o dX11_atom_21 ?_
    refine s_cv (d := d + 4) (C := "LazyForgeModel") (As := [vI 1, vI 0, vI 0]) (st := []) o (st_pile (mg Γ) (d + 4) h hT 1 0 0 (r32 rfl) (r32 rfl) (r32 rfl)) mw_X11_pile rfl (Or.inl (lw_all_tbl q3019)) (lw_all_tbl qs75) (lw_all_tbl q3021) (fun t => rc_t o hT t) wt_0 rfl dX11_atom_22 rfl (rs := fun _ => []) (fun _ => rfl) (fun _ _ => ?_)
    refine s_iconst o dX11_atom_25 ?_
    exact s_iret o rfl i_boolean (Or.inl rfl) dX11_atom_26 (fun _ hh => hh)
theorem dX11_signE_0 : decode cX11_signE 0 = .ok (.aload_n 0, 1) := by decide +kernel
theorem dX11_signE_1 : decode cX11_signE 1 = .ok (.getfield 286, 3) := by decide +kernel
theorem dX11_signE_4 : decode cX11_signE 4 = .ok (.invokestatic 427, 3) := by decide +kernel
theorem dX11_signE_7 : decode cX11_signE 7 = .ok (.istore_n 1, 1) := by decide +kernel
theorem dX11_signE_8 : decode cX11_signE 8 = .ok (.aload_n 0, 1) := by decide +kernel
theorem dX11_signE_9 : decode cX11_signE 9 = .ok (.iload_n 1, 1) := by decide +kernel
theorem dX11_signE_10 : decode cX11_signE 10 = .ok (.iconst 1, 1) := by decide +kernel
theorem dX11_signE_11 : decode cX11_signE 11 = .ok (.if_icmp .ne 7, 3) := by decide +kernel
theorem dX11_signE_14 : decode cX11_signE 14 = .ok (.iconst 2, 1) := by decide +kernel
theorem dX11_signE_15 : decode cX11_signE 15 = .ok (.goto 4, 3) := by decide +kernel
theorem dX11_signE_18 : decode cX11_signE 18 = .ok (.iload_n 1, 1) := by decide +kernel
theorem dX11_signE_19 : decode cX11_signE 19 = .ok (.invokevirtual 430, 3) := by decide +kernel
theorem dX11_signE_22 : decode cX11_signE 22 = .ok (.iload_n 1, 1) := by decide +kernel
theorem dX11_signE_23 : decode cX11_signE 23 = .ok (.iconst 1, 1) := by decide +kernel
theorem dX11_signE_24 : decode cX11_signE 24 = .ok (.if_icmp .ne 24, 3) := by decide +kernel
theorem dX11_signE_27 : decode cX11_signE 27 = .ok (.aload_n 0, 1) := by decide +kernel
theorem dX11_signE_28 : decode cX11_signE 28 = .ok (.getfield 65, 3) := by decide +kernel
theorem dX11_signE_31 : decode cX11_signE 31 = .ok (.aload_n 0, 1) := by decide +kernel
theorem dX11_signE_32 : decode cX11_signE 32 = .ok (.getfield 342, 3) := by decide +kernel
theorem dX11_signE_35 : decode cX11_signE 35 = .ok (.iconst 1, 1) := by decide +kernel
theorem dX11_signE_36 : decode cX11_signE 36 = .ok (.isub, 1) := by decide +kernel
theorem dX11_signE_37 : decode cX11_signE 37 = .ok (.iaload, 1) := by decide +kernel
theorem dX11_signE_38 : decode cX11_signE 38 = .ok (.bipush 7, 2) := by decide +kernel
theorem dX11_signE_40 : decode cX11_signE 40 = .ok (.if_icmp .ne 8, 3) := by decide +kernel
theorem dX11_signE_43 : decode cX11_signE 43 = .ok (.aload_n 0, 1) := by decide +kernel
theorem dX11_signE_44 : decode cX11_signE 44 = .ok (.invokevirtual 324, 3) := by decide +kernel
theorem dX11_signE_47 : decode cX11_signE 47 = .ok (.return_, 1) := by decide +kernel
theorem dX11_signE_48 : decode cX11_signE 48 = .ok (.aload_n 0, 1) := by decide +kernel
theorem dX11_signE_49 : decode cX11_signE 49 = .ok (.invokevirtual 355, 3) := by decide +kernel
theorem dX11_signE_52 : decode cX11_signE 52 = .ok (.ifCond .eq 11, 3) := by decide +kernel
theorem dX11_signE_55 : decode cX11_signE 55 = .ok (.aload_n 0, 1) := by decide +kernel
theorem dX11_signE_56 : decode cX11_signE 56 = .ok (.iconst 5, 1) := by decide +kernel
theorem dX11_signE_57 : decode cX11_signE 57 = .ok (.invokevirtual 369, 3) := by decide +kernel
theorem dX11_signE_60 : decode cX11_signE 60 = .ok (.goto 4, 3) := by decide +kernel
theorem dX11_signE_63 : decode cX11_signE 63 = .ok (.iconst 0, 1) := by decide +kernel
theorem dX11_signE_64 : decode cX11_signE 64 = .ok (.istore_n 2, 1) := by decide +kernel
theorem dX11_signE_65 : decode cX11_signE 65 = .ok (.aload_n 0, 1) := by decide +kernel
theorem dX11_signE_66 : decode cX11_signE 66 = .ok (.getfield 31, 3) := by decide +kernel
theorem dX11_signE_69 : decode cX11_signE 69 = .ok (.iload_n 2, 1) := by decide +kernel
theorem dX11_signE_70 : decode cX11_signE 70 = .ok (.aload_n 0, 1) := by decide +kernel
theorem dX11_signE_71 : decode cX11_signE 71 = .ok (.getfield 286, 3) := by decide +kernel
theorem dX11_signE_74 : decode cX11_signE 74 = .ok (.iastore, 1) := by decide +kernel
theorem dX11_signE_75 : decode cX11_signE 75 = .ok (.aload_n 0, 1) := by decide +kernel
theorem dX11_signE_76 : decode cX11_signE 76 = .ok (.iconst 1, 1) := by decide +kernel
theorem dX11_signE_77 : decode cX11_signE 77 = .ok (.invokevirtual 359, 3) := by decide +kernel
theorem dX11_signE_80 : decode cX11_signE 80 = .ok (.aload_n 0, 1) := by decide +kernel
theorem dX11_signE_81 : decode cX11_signE 81 = .ok (.bipush 7, 2) := by decide +kernel
theorem dX11_signE_83 : decode cX11_signE 83 = .ok (.iload_n 2, 1) := by decide +kernel
theorem dX11_signE_84 : decode cX11_signE 84 = .ok (.iload_n 1, 1) := by decide +kernel
theorem dX11_signE_85 : decode cX11_signE 85 = .ok (.invokevirtual 372, 3) := by decide +kernel
theorem dX11_signE_88 : decode cX11_signE 88 = .ok (.aload_n 0, 1) := by decide +kernel
theorem dX11_signE_89 : decode cX11_signE 89 = .ok (.iconst 1, 1) := by decide +kernel
theorem dX11_signE_90 : decode cX11_signE 90 = .ok (.putfield 389, 3) := by decide +kernel
theorem dX11_signE_93 : decode cX11_signE 93 = .ok (.aload_n 0, 1) := by decide +kernel
theorem dX11_signE_94 : decode cX11_signE 94 = .ok (.iconst 0, 1) := by decide +kernel
theorem dX11_signE_95 : decode cX11_signE 95 = .ok (.putfield 393, 3) := by decide +kernel
theorem dX11_signE_98 : decode cX11_signE 98 = .ok (.return_, 1) := by decide +kernel
theorem mw_X11_signE : MW yX11_signE (Cond.code yX11_signE cX11_signE 3 (Option.none : Option Jvm.ClassFile.FieldType)) cX11_signE 3 (Option.none : Option Jvm.ClassFile.FieldType) 0 := ⟨rfl, ⟨(lw_all_tbl q3085), rfl, (lw_all_tbl q173)⟩, rfl, ⟨by decide, by decide⟩, by decide +kernel⟩
noncomputable def t_signE_64  (l1 : Int) (k0 : Int) : Mo TS Int :=
  bnd (gs 6) fun v1 =>
  bnd (wr 18 3200 k0 v1) fun _ =>
  bnd (t_accept 1) fun _ =>
  bnd (t_pile 7 k0 l1) fun _ =>
  bnd (ss 43 1) fun _ =>
  bnd (ss 42 0) fun _ =>
  pr 0
theorem st_signE_64 {Γ : Gm} {h : CH} {d : Nat} (hT : HT h) (o : Ok Γ "LazyForgeModel" cX11_signE 3 (Option.none : Option Jvm.ClassFile.FieldType) (d + 5))   (l1 : Int) (k0 : Int) (hl1 : R32 l1) (hk0 : R32 k0) : Sx Γ (fun t => (h, t)) (fun a s => mt Γ = (0, a, ((h, s) : Wd))) 64 [(0, vA (mg Γ) 21), (1, vI l1)] [vI k0] (t_signE_64 l1 k0) := by
  unfold t_signE_64
  refine r_istore_n o dX11_signE_64 rfl rfl ⟨(Nat.ne_of_beq_eq_false rfl), (fun _ => (vA_cat (mg Γ) 21)), ⟨(Nat.ne_of_beq_eq_false rfl), (fun _ => rfl), trivial⟩⟩ ?_
  refine s_aload_n o dX11_signE_65 rfl 1 rfl ?_
  refine s_tga (x := 29) o hT tf_values ta_values (lw_all_tbl q2522) dX11_signE_66 ?_
  refine s_iload_n o dX11_signE_69 rfl 0 rfl ?_
  refine s_aload_n o dX11_signE_70 rfl 1 rfl ?_
  refine r_tgf vI rfl o hT tf_word tj_word (lw_all_tbl q2510) dX11_signE_71 (fun v1 hv1 => ?_)
  refine r_tiast o hT tr_values hk0 hv1 dX11_signE_74 ?_
  refine s_aload_n o dX11_signE_75 rfl 1 rfl ?_
  refine s_iconst o dX11_signE_76 ?_
  refine s_cv (d := d + 4) (C := "LazyForgeModel") (As := [vI 1]) (st := []) o (st_accept (mg Γ) d h hT 1 (Or.inr rfl)) mw_X11_accept rfl (Or.inl (lw_all_tbl q2979)) (lw_all_tbl qs65) (lw_all_tbl q2981) (fun t => rc_t o hT t) wt_0 rfl dX11_signE_77 rfl (rs := fun _ => []) (fun _ => rfl) (fun _ _ => ?_)
  refine s_aload_n o dX11_signE_80 rfl 1 rfl ?_
  refine s_bipush o dX11_signE_81 rfl ?_
  refine s_iload_n o dX11_signE_83 rfl 0 rfl ?_
  refine s_iload_n o dX11_signE_84 rfl 2 rfl ?_
  refine s_cv (d := d + 4) (C := "LazyForgeModel") (As := [vI 7, vI k0, vI l1]) (st := []) o (st_pile (mg Γ) (d + 4) h hT 7 k0 l1 (r32 rfl) hk0 hl1) mw_X11_pile rfl (Or.inl (lw_all_tbl q3019)) (lw_all_tbl qs75) (lw_all_tbl q3021) (fun t => rc_t o hT t) wt_0 rfl dX11_signE_85 rfl (rs := fun _ => []) (fun _ => rfl) (fun _ _ => ?_)
  refine s_aload_n o dX11_signE_88 rfl 1 rfl ?_
  refine s_iconst o dX11_signE_89 ?_
  refine r_tpf vI rfl o hT tf_wants tj_wants (lw_all_tbl q2547) dX11_signE_90 (Or.inr rfl) ty_boolean ?_
  refine s_aload_n o dX11_signE_93 rfl 1 rfl ?_
  refine s_iconst o dX11_signE_94 ?_
  refine r_tpf vI rfl o hT tf_startsE tj_startsE (lw_all_tbl q2546) dX11_signE_95 (Or.inl rfl) ty_boolean ?_
  exact s_vret o rfl dX11_signE_98 (fun _ hh => hh)
noncomputable def t_signE_48  (l1 : Int) : Mo TS Int :=
  bnd (t_part) fun v1 =>
  if v1 = 0 then
    t_signE_64 l1 0
  else
    bnd (t_node 5) fun v2 =>
    t_signE_64 l1 v2
theorem st_signE_48 {Γ : Gm} {h : CH} {d : Nat} (hT : HT h) (o : Ok Γ "LazyForgeModel" cX11_signE 3 (Option.none : Option Jvm.ClassFile.FieldType) (d + 5))   (l1 : Int) (hl1 : R32 l1) : Sx Γ (fun t => (h, t)) (fun a s => mt Γ = (0, a, ((h, s) : Wd))) 48 [(0, vA (mg Γ) 21), (1, vI l1)] [] (t_signE_48 l1) := by
  unfold t_signE_48
  refine s_aload_n o dX11_signE_48 rfl 0 rfl ?_
  refine s_cv (d := d + 4) (C := "LazyForgeModel") (As := []) (st := []) o (st_part (mg Γ) (d + 3) h hT) mw_X11_part rfl (Or.inl (lw_all_tbl q3007)) (lw_all_tbl qs72) (lw_all_tbl q3009) (fun t => rc_t o hT t) wt_0 rfl dX11_signE_49 rfl (rs := fun r => [vI r]) (fun _ => rfl) (fun v1 hv1 => ?_)
  refine s_if_eq (tgt := 63) o dX11_signE_52 (by decide) (rZ (hv1 _ rfl)) ?_ ?_
  · refine s_iconst o dX11_signE_63 ?_
    exact st_signE_64 hT o l1 0 hl1 (r32 rfl)
  · refine s_aload_n o dX11_signE_55 rfl 0 rfl ?_
    refine s_iconst o dX11_signE_56 ?_
    refine s_cv (d := d + 4) (C := "LazyForgeModel") (As := [vI 5]) (st := []) o (st_node (mg Γ) (d + 4) h hT 5 (r32 rfl)) mw_X11_node rfl (Or.inl (lw_all_tbl q2995)) (lw_all_tbl qs69) (lw_all_tbl q2997) (fun t => rc_t o hT t) wt_0 rfl dX11_signE_57 rfl (rs := fun r => [vI r]) (fun _ => rfl) (fun v2 hv2 => ?_)
    refine s_goto (tgt := 64) o dX11_signE_60 (by decide) ?_
    exact st_signE_64 hT o l1 v2 hl1 (hv2 _ rfl)
noncomputable def t_signE_19  (l1 : Int) (k0 : Int) : Mo TS Int :=
  bnd (t_reduce k0) fun _ =>
  if ¬ l1 = 1 then
    t_signE_48 l1
  else
    bnd (gs 35) fun v1 =>
    bnd (rd 36 3200 (w32 (v1 - 1))) fun v2 =>
    if ¬ v2 = 7 then
      t_signE_48 l1
    else
      bnd (t_wrong) fun _ =>
      pr 0
theorem st_signE_19 {Γ : Gm} {h : CH} {d : Nat} (hT : HT h) (o : Ok Γ "LazyForgeModel" cX11_signE 3 (Option.none : Option Jvm.ClassFile.FieldType) (d + 5))   (l1 : Int) (k0 : Int) (hl1 : R32 l1) (hk0 : R32 k0) : Sx Γ (fun t => (h, t)) (fun a s => mt Γ = (0, a, ((h, s) : Wd))) 19 [(0, vA (mg Γ) 21), (1, vI l1)] [vI k0, vA (mg Γ) 21] (t_signE_19 l1 k0) := by
  unfold t_signE_19
  refine s_cv (d := d + 4) (C := "LazyForgeModel") (As := [vI k0]) (st := []) o (st_reduce (mg Γ) (d + 3) h hT k0 hk0) mw_X11_reduce rfl (Or.inl (lw_all_tbl q3086)) (lw_all_tbl qs91) (lw_all_tbl q3088) (fun t => rc_t o hT t) wt_0 rfl dX11_signE_19 rfl (rs := fun _ => []) (fun _ => rfl) (fun _ _ => ?_)
  refine s_iload_n o dX11_signE_22 rfl 1 rfl ?_
  refine s_iconst o dX11_signE_23 ?_
  refine s_icmp_ne (tgt := 48) o dX11_signE_24 (by decide) hl1 (r32 rfl) ?_ ?_
  · exact st_signE_48 hT o l1 hl1
  · refine s_aload_n o dX11_signE_27 rfl 0 rfl ?_
    refine s_tga (x := 40) o hT tf_pileKinds ta_pileKinds (lw_all_tbl q2540) dX11_signE_28 ?_
    refine s_aload_n o dX11_signE_31 rfl 0 rfl ?_
    refine r_tgf vI rfl o hT tf_piled tj_piled (lw_all_tbl q2539) dX11_signE_32 (fun v1 hv1 => ?_)
    refine s_iconst o dX11_signE_35 ?_
    refine s_isub o dX11_signE_36 ?_
    refine r_tiald o hT tr_pileKinds (w32_R _) dX11_signE_37 (fun v2 hv2 => ?_)
    refine s_bipush o dX11_signE_38 rfl ?_
    refine s_icmp_ne (tgt := 48) o dX11_signE_40 (by decide) hv2 (r32 rfl) ?_ ?_
    · exact st_signE_48 hT o l1 hl1
    · refine s_aload_n o dX11_signE_43 rfl 0 rfl ?_
      refine s_cv (d := d + 4) (C := "LazyForgeModel") (As := []) (st := []) o (st_wrong (mg Γ) (d + 3) h hT) mw_X11_wrong rfl (Or.inl (lw_all_tbl q2983)) (lw_all_tbl qs66) (lw_all_tbl q2985) (fun t => rc_t o hT t) wt_0 rfl dX11_signE_44 rfl (rs := fun _ => []) (fun _ => rfl) (fun _ _ => ?_)
      exact s_vret o rfl dX11_signE_47 (fun _ hh => hh)
noncomputable def t_signE : Mo TS Int :=
  bnd (gs 6) fun v1 =>
  bnd (t_rank v1) fun v2 =>
  if ¬ v2 = 1 then
    t_signE_19 v2 v2
  else
    t_signE_19 v2 2
theorem st_signE (g : gC) (d : Nat) (h : CH) (hT : HT h) : SF g yX11_signE (Cond.code yX11_signE cX11_signE 3 (Option.none : Option Jvm.ClassFile.FieldType)) (Option.none : Option Jvm.ClassFile.FieldType) (d + 5) [vA g 21] (fun t => (h, t)) (t_signE) := by
  refine SF.of (lv := [(0, vA g 21)]) (by decide) (wt_A wt_0) rfl (by simp only [la_A, la_I, la_J, la_0]) (fun Γ hg hnm o => ?_)
  subst hg
  have o : Ok Γ "LazyForgeModel" cX11_signE 3 (Option.none : Option Jvm.ClassFile.FieldType) (d + 5) := o
  unfold t_signE
  refine s_aload_n o dX11_signE_0 rfl 0 rfl ?_
  refine r_tgf vI rfl o hT tf_word tj_word (lw_all_tbl q2510) dX11_signE_1 (fun v1 hv1 => ?_)
  refine s_cs (d := d + 4) (As := [vI v1]) (st := []) o (st_rank (mg Γ) (d + 4) h v1 hv1) mw_X11_rank rfl (Or.inl (lw_all_tbl q3079)) (lw_all_tbl q3080) wt_0 rfl dX11_signE_4 rfl (rs := fun r => [vI r]) (fun _ => rfl) (fun v2 hv2 => ?_)
  refine r_istore_n o dX11_signE_7 rfl rfl ⟨(Nat.ne_of_beq_eq_false rfl), (fun _ => (vA_cat (mg Γ) 21)), trivial⟩ ?_
  refine s_aload_n o dX11_signE_8 rfl 1 rfl ?_
  refine s_iload_n o dX11_signE_9 rfl 0 rfl ?_
  refine s_iconst o dX11_signE_10 ?_
  refine s_icmp_ne (tgt := 18) o dX11_signE_11 (by decide) (hv2 _ rfl) (r32 rfl) ?_ ?_
  · refine s_iload_n o dX11_signE_18 rfl 0 rfl ?_
    refine r_to [(0, vA (mg Γ) 21), (1, vI v2)] [1, 0] rfl ?_
    exact st_signE_19 hT o v2 v2 (hv2 _ rfl) (hv2 _ rfl)
  · refine s_iconst o dX11_signE_14 ?_
    refine s_goto (tgt := 19) o dX11_signE_15 (by decide) ?_
    refine r_to [(0, vA (mg Γ) 21), (1, vI v2)] [1, 0] rfl ?_
    exact st_signE_19 hT o v2 2 (hv2 _ rfl) (r32 rfl)
theorem dX11_branch_0 : decode cX11_branch 0 = .ok (.aload_n 0, 1) := by decide +kernel
theorem dX11_branch_1 : decode cX11_branch 1 = .ok (.getfield 311, 3) := by decide +kernel
theorem dX11_branch_4 : decode cX11_branch 4 = .ok (.ifCond .le 4, 3) := by decide +kernel
theorem dX11_branch_7 : decode cX11_branch 7 = .ok (.return_, 1) := by decide +kernel
theorem dX11_branch_8 : decode cX11_branch 8 = .ok (.iconst 0, 1) := by decide +kernel
theorem dX11_branch_9 : decode cX11_branch 9 = .ok (.istore_n 2, 1) := by decide +kernel
theorem dX11_branch_10 : decode cX11_branch 10 = .ok (.aload_n 0, 1) := by decide +kernel
theorem dX11_branch_11 : decode cX11_branch 11 = .ok (.getfield 19, 3) := by decide +kernel
theorem dX11_branch_14 : decode cX11_branch 14 = .ok (.iload_n 1, 1) := by decide +kernel
theorem dX11_branch_15 : decode cX11_branch 15 = .ok (.iaload, 1) := by decide +kernel
theorem dX11_branch_16 : decode cX11_branch 16 = .ok (.istore_n 3, 1) := by decide +kernel
theorem dX11_branch_17 : decode cX11_branch 17 = .ok (.iload_n 3, 1) := by decide +kernel
theorem dX11_branch_18 : decode cX11_branch 18 = .ok (.ifCond .lt 16, 3) := by decide +kernel
theorem dX11_branch_21 : decode cX11_branch 21 = .ok (.iinc 2 1, 3) := by decide +kernel
theorem dX11_branch_24 : decode cX11_branch 24 = .ok (.aload_n 0, 1) := by decide +kernel
theorem dX11_branch_25 : decode cX11_branch 25 = .ok (.getfield 25, 3) := by decide +kernel
theorem dX11_branch_28 : decode cX11_branch 28 = .ok (.iload_n 3, 1) := by decide +kernel
theorem dX11_branch_29 : decode cX11_branch 29 = .ok (.iaload, 1) := by decide +kernel
theorem dX11_branch_30 : decode cX11_branch 30 = .ok (.istore_n 3, 1) := by decide +kernel
theorem dX11_branch_31 : decode cX11_branch 31 = .ok (.goto (-14), 3) := by decide +kernel
theorem dX11_branch_34 : decode cX11_branch 34 = .ok (.aload_n 0, 1) := by decide +kernel
theorem dX11_branch_35 : decode cX11_branch 35 = .ok (.getfield 286, 3) := by decide +kernel
theorem dX11_branch_38 : decode cX11_branch 38 = .ok (.iconst 4, 1) := by decide +kernel
theorem dX11_branch_39 : decode cX11_branch 39 = .ok (.if_icmp .eq 20, 3) := by decide +kernel
theorem dX11_branch_42 : decode cX11_branch 42 = .ok (.aload_n 0, 1) := by decide +kernel
theorem dX11_branch_43 : decode cX11_branch 43 = .ok (.getfield 286, 3) := by decide +kernel
theorem dX11_branch_46 : decode cX11_branch 46 = .ok (.iconst 2, 1) := by decide +kernel
theorem dX11_branch_47 : decode cX11_branch 47 = .ok (.if_icmp .eq 12, 3) := by decide +kernel
theorem dX11_branch_50 : decode cX11_branch 50 = .ok (.aload_n 0, 1) := by decide +kernel
theorem dX11_branch_51 : decode cX11_branch 51 = .ok (.bipush 95, 2) := by decide +kernel
theorem dX11_branch_53 : decode cX11_branch 53 = .ok (.invokevirtual 383, 3) := by decide +kernel
theorem dX11_branch_56 : decode cX11_branch 56 = .ok (.ifCond .eq 7, 3) := by decide +kernel
theorem dX11_branch_59 : decode cX11_branch 59 = .ok (.iconst 1, 1) := by decide +kernel
theorem dX11_branch_60 : decode cX11_branch 60 = .ok (.goto 4, 3) := by decide +kernel
theorem dX11_branch_63 : decode cX11_branch 63 = .ok (.iconst 0, 1) := by decide +kernel
theorem dX11_branch_64 : decode cX11_branch 64 = .ok (.istore_n 3, 1) := by decide +kernel
theorem dX11_branch_65 : decode cX11_branch 65 = .ok (.aload_n 0, 1) := by decide +kernel
theorem dX11_branch_66 : decode cX11_branch 66 = .ok (.getfield 286, 3) := by decide +kernel
theorem dX11_branch_69 : decode cX11_branch 69 = .ok (.iconst 4, 1) := by decide +kernel
theorem dX11_branch_70 : decode cX11_branch 70 = .ok (.if_icmp .ne 14, 3) := by decide +kernel
theorem dX11_branch_73 : decode cX11_branch 73 = .ok (.aload_n 0, 1) := by decide +kernel
theorem dX11_branch_74 : decode cX11_branch 74 = .ok (.aload_n 0, 1) := by decide +kernel
theorem dX11_branch_75 : decode cX11_branch 75 = .ok (.getfield 278, 3) := by decide +kernel
theorem dX11_branch_78 : decode cX11_branch 78 = .ok (.invokevirtual 396, 3) := by decide +kernel
theorem dX11_branch_81 : decode cX11_branch 81 = .ok (.goto 4, 3) := by decide +kernel
theorem dX11_branch_84 : decode cX11_branch 84 = .ok (.iconst 0, 1) := by decide +kernel
theorem dX11_branch_85 : decode cX11_branch 85 = .ok (.istore 4, 2) := by decide +kernel
theorem dX11_branch_87 : decode cX11_branch 87 = .ok (.iload_n 3, 1) := by decide +kernel
theorem dX11_branch_88 : decode cX11_branch 88 = .ok (.ifCond .ne 10, 3) := by decide +kernel
theorem dX11_branch_91 : decode cX11_branch 91 = .ok (.aload_n 0, 1) := by decide +kernel
theorem dX11_branch_92 : decode cX11_branch 92 = .ok (.invokevirtual 324, 3) := by decide +kernel
theorem dX11_branch_95 : decode cX11_branch 95 = .ok (.goto 35, 3) := by decide +kernel
theorem dX11_branch_98 : decode cX11_branch 98 = .ok (.iload 4, 2) := by decide +kernel
theorem dX11_branch_100 : decode cX11_branch 100 = .ok (.ifCond .ge 15, 3) := by decide +kernel
theorem dX11_branch_103 : decode cX11_branch 103 = .ok (.aload_n 0, 1) := by decide +kernel
theorem dX11_branch_104 : decode cX11_branch 104 = .ok (.iconst 3, 1) := by decide +kernel
theorem dX11_branch_105 : decode cX11_branch 105 = .ok (.aload_n 0, 1) := by decide +kernel
theorem dX11_branch_106 : decode cX11_branch 106 = .ok (.getfield 275, 3) := by decide +kernel
theorem dX11_branch_109 : decode cX11_branch 109 = .ok (.invokevirtual 317, 3) := by decide +kernel
theorem dX11_branch_112 : decode cX11_branch 112 = .ok (.goto 18, 3) := by decide +kernel
theorem dX11_branch_115 : decode cX11_branch 115 = .ok (.iload_n 2, 1) := by decide +kernel
theorem dX11_branch_116 : decode cX11_branch 116 = .ok (.bipush 8, 2) := by decide +kernel
theorem dX11_branch_118 : decode cX11_branch 118 = .ok (.if_icmp .ne 12, 3) := by decide +kernel
theorem dX11_branch_121 : decode cX11_branch 121 = .ok (.aload_n 0, 1) := by decide +kernel
theorem dX11_branch_122 : decode cX11_branch 122 = .ok (.iconst 4, 1) := by decide +kernel
theorem dX11_branch_123 : decode cX11_branch 123 = .ok (.aload_n 0, 1) := by decide +kernel
theorem dX11_branch_124 : decode cX11_branch 124 = .ok (.getfield 275, 3) := by decide +kernel
theorem dX11_branch_127 : decode cX11_branch 127 = .ok (.invokevirtual 317, 3) := by decide +kernel
theorem dX11_branch_130 : decode cX11_branch 130 = .ok (.aload_n 0, 1) := by decide +kernel
theorem dX11_branch_131 : decode cX11_branch 131 = .ok (.getfield 311, 3) := by decide +kernel
theorem dX11_branch_134 : decode cX11_branch 134 = .ok (.ifCond .le 4, 3) := by decide +kernel
theorem dX11_branch_137 : decode cX11_branch 137 = .ok (.return_, 1) := by decide +kernel
theorem dX11_branch_138 : decode cX11_branch 138 = .ok (.aload_n 0, 1) := by decide +kernel
theorem dX11_branch_139 : decode cX11_branch 139 = .ok (.iconst 4, 1) := by decide +kernel
theorem dX11_branch_140 : decode cX11_branch 140 = .ok (.invokevirtual 369, 3) := by decide +kernel
theorem dX11_branch_143 : decode cX11_branch 143 = .ok (.istore 5, 2) := by decide +kernel
theorem dX11_branch_145 : decode cX11_branch 145 = .ok (.aload_n 0, 1) := by decide +kernel
theorem dX11_branch_146 : decode cX11_branch 146 = .ok (.iload_n 1, 1) := by decide +kernel
theorem dX11_branch_147 : decode cX11_branch 147 = .ok (.iload 5, 2) := by decide +kernel
theorem dX11_branch_149 : decode cX11_branch 149 = .ok (.invokevirtual 386, 3) := by decide +kernel
theorem dX11_branch_152 : decode cX11_branch 152 = .ok (.aload_n 0, 1) := by decide +kernel
theorem dX11_branch_153 : decode cX11_branch 153 = .ok (.getfield 34, 3) := by decide +kernel
theorem dX11_branch_156 : decode cX11_branch 156 = .ok (.iload 5, 2) := by decide +kernel
theorem dX11_branch_158 : decode cX11_branch 158 = .ok (.aload_n 0, 1) := by decide +kernel
theorem dX11_branch_159 : decode cX11_branch 159 = .ok (.getfield 286, 3) := by decide +kernel
theorem dX11_branch_162 : decode cX11_branch 162 = .ok (.iconst 4, 1) := by decide +kernel
theorem dX11_branch_163 : decode cX11_branch 163 = .ok (.if_icmp .ne 7, 3) := by decide +kernel
theorem dX11_branch_166 : decode cX11_branch 166 = .ok (.iconst 0, 1) := by decide +kernel
theorem dX11_branch_167 : decode cX11_branch 167 = .ok (.goto 16, 3) := by decide +kernel
theorem dX11_branch_170 : decode cX11_branch 170 = .ok (.aload_n 0, 1) := by decide +kernel
theorem dX11_branch_171 : decode cX11_branch 171 = .ok (.getfield 286, 3) := by decide +kernel
theorem dX11_branch_174 : decode cX11_branch 174 = .ok (.iconst 2, 1) := by decide +kernel
theorem dX11_branch_175 : decode cX11_branch 175 = .ok (.if_icmp .ne 7, 3) := by decide +kernel
theorem dX11_branch_178 : decode cX11_branch 178 = .ok (.iconst 1, 1) := by decide +kernel
theorem dX11_branch_179 : decode cX11_branch 179 = .ok (.goto 4, 3) := by decide +kernel
theorem dX11_branch_182 : decode cX11_branch 182 = .ok (.iconst 2, 1) := by decide +kernel
theorem dX11_branch_183 : decode cX11_branch 183 = .ok (.iastore, 1) := by decide +kernel
theorem dX11_branch_184 : decode cX11_branch 184 = .ok (.aload_n 0, 1) := by decide +kernel
theorem dX11_branch_185 : decode cX11_branch 185 = .ok (.getfield 31, 3) := by decide +kernel
theorem dX11_branch_188 : decode cX11_branch 188 = .ok (.iload 5, 2) := by decide +kernel
theorem dX11_branch_190 : decode cX11_branch 190 = .ok (.aload_n 0, 1) := by decide +kernel
theorem dX11_branch_191 : decode cX11_branch 191 = .ok (.getfield 286, 3) := by decide +kernel
theorem dX11_branch_194 : decode cX11_branch 194 = .ok (.iconst 4, 1) := by decide +kernel
theorem dX11_branch_195 : decode cX11_branch 195 = .ok (.if_icmp .ne 8, 3) := by decide +kernel
theorem dX11_branch_198 : decode cX11_branch 198 = .ok (.iload 4, 2) := by decide +kernel
theorem dX11_branch_200 : decode cX11_branch 200 = .ok (.goto 7, 3) := by decide +kernel
theorem dX11_branch_203 : decode cX11_branch 203 = .ok (.aload_n 0, 1) := by decide +kernel
theorem dX11_branch_204 : decode cX11_branch 204 = .ok (.getfield 295, 3) := by decide +kernel
theorem dX11_branch_207 : decode cX11_branch 207 = .ok (.iastore, 1) := by decide +kernel
theorem dX11_branch_208 : decode cX11_branch 208 = .ok (.aload_n 0, 1) := by decide +kernel
theorem dX11_branch_209 : decode cX11_branch 209 = .ok (.invokevirtual 321, 3) := by decide +kernel
theorem dX11_branch_212 : decode cX11_branch 212 = .ok (.iconst 0, 1) := by decide +kernel
theorem dX11_branch_213 : decode cX11_branch 213 = .ok (.istore 6, 2) := by decide +kernel
theorem dX11_branch_215 : decode cX11_branch 215 = .ok (.aload_n 0, 1) := by decide +kernel
theorem dX11_branch_216 : decode cX11_branch 216 = .ok (.getfield 34, 3) := by decide +kernel
theorem dX11_branch_219 : decode cX11_branch 219 = .ok (.iload 5, 2) := by decide +kernel
theorem dX11_branch_221 : decode cX11_branch 221 = .ok (.iaload, 1) := by decide +kernel
theorem dX11_branch_222 : decode cX11_branch 222 = .ok (.ifCond .ne 94, 3) := by decide +kernel
theorem dX11_branch_225 : decode cX11_branch 225 = .ok (.iload 6, 2) := by decide +kernel
theorem dX11_branch_227 : decode cX11_branch 227 = .ok (.aload_n 0, 1) := by decide +kernel
theorem dX11_branch_228 : decode cX11_branch 228 = .ok (.getfield 62, 3) := by decide +kernel
theorem dX11_branch_231 : decode cX11_branch 231 = .ok (.iload 4, 2) := by decide +kernel
theorem dX11_branch_233 : decode cX11_branch 233 = .ok (.iaload, 1) := by decide +kernel
theorem dX11_branch_234 : decode cX11_branch 234 = .ok (.if_icmp .ge 82, 3) := by decide +kernel
theorem dX11_branch_237 : decode cX11_branch 237 = .ok (.aload_n 0, 1) := by decide +kernel
theorem dX11_branch_238 : decode cX11_branch 238 = .ok (.getfield 311, 3) := by decide +kernel
theorem dX11_branch_241 : decode cX11_branch 241 = .ok (.ifCond .ne 75, 3) := by decide +kernel
theorem dX11_branch_244 : decode cX11_branch 244 = .ok (.aload_n 0, 1) := by decide +kernel
theorem dX11_branch_245 : decode cX11_branch 245 = .ok (.getfield 278, 3) := by decide +kernel
theorem dX11_branch_248 : decode cX11_branch 248 = .ok (.lstore 7, 2) := by decide +kernel
theorem dX11_branch_250 : decode cX11_branch 250 = .ok (.aload_n 0, 1) := by decide +kernel
theorem dX11_branch_251 : decode cX11_branch 251 = .ok (.getfield 286, 3) := by decide +kernel
theorem dX11_branch_254 : decode cX11_branch 254 = .ok (.iconst 3, 1) := by decide +kernel
theorem dX11_branch_255 : decode cX11_branch 255 = .ok (.if_icmp .ne 23, 3) := by decide +kernel
theorem dX11_branch_258 : decode cX11_branch 258 = .ok (.aload_n 0, 1) := by decide +kernel
theorem dX11_branch_259 : decode cX11_branch 259 = .ok (.iload 5, 2) := by decide +kernel
theorem dX11_branch_261 : decode cX11_branch 261 = .ok (.lload 7, 2) := by decide +kernel
theorem dX11_branch_263 : decode cX11_branch 263 = .ok (.invokevirtual 351, 3) := by decide +kernel
theorem dX11_branch_266 : decode cX11_branch 266 = .ok (.ifCond .eq 12, 3) := by decide +kernel
theorem dX11_branch_269 : decode cX11_branch 269 = .ok (.aload_n 0, 1) := by decide +kernel
theorem dX11_branch_270 : decode cX11_branch 270 = .ok (.iconst 2, 1) := by decide +kernel
theorem dX11_branch_271 : decode cX11_branch 271 = .ok (.aload_n 0, 1) := by decide +kernel
theorem dX11_branch_272 : decode cX11_branch 272 = .ok (.getfield 275, 3) := by decide +kernel
theorem dX11_branch_275 : decode cX11_branch 275 = .ok (.invokevirtual 317, 3) := by decide +kernel
theorem dX11_branch_278 : decode cX11_branch 278 = .ok (.aload_n 0, 1) := by decide +kernel
theorem dX11_branch_279 : decode cX11_branch 279 = .ok (.aload_n 0, 1) := by decide +kernel
theorem dX11_branch_280 : decode cX11_branch 280 = .ok (.getfield 286, 3) := by decide +kernel
theorem dX11_branch_283 : decode cX11_branch 283 = .ok (.iconst 3, 1) := by decide +kernel
theorem dX11_branch_284 : decode cX11_branch 284 = .ok (.if_icmp .ne 7, 3) := by decide +kernel
theorem dX11_branch_287 : decode cX11_branch 287 = .ok (.iconst 1, 1) := by decide +kernel
theorem dX11_branch_288 : decode cX11_branch 288 = .ok (.goto 4, 3) := by decide +kernel
theorem dX11_branch_291 : decode cX11_branch 291 = .ok (.iconst 0, 1) := by decide +kernel
theorem dX11_branch_292 : decode cX11_branch 292 = .ok (.invokevirtual 359, 3) := by decide +kernel
theorem dX11_branch_295 : decode cX11_branch 295 = .ok (.aload_n 0, 1) := by decide +kernel
theorem dX11_branch_296 : decode cX11_branch 296 = .ok (.getfield 311, 3) := by decide +kernel
theorem dX11_branch_299 : decode cX11_branch 299 = .ok (.ifCond .ne 11, 3) := by decide +kernel
theorem dX11_branch_302 : decode cX11_branch 302 = .ok (.aload_n 0, 1) := by decide +kernel
theorem dX11_branch_303 : decode cX11_branch 303 = .ok (.iload 5, 2) := by decide +kernel
theorem dX11_branch_305 : decode cX11_branch 305 = .ok (.lload 7, 2) := by decide +kernel
theorem dX11_branch_307 : decode cX11_branch 307 = .ok (.invokevirtual 362, 3) := by decide +kernel
theorem dX11_branch_310 : decode cX11_branch 310 = .ok (.iinc 6 1, 3) := by decide +kernel
theorem dX11_branch_313 : decode cX11_branch 313 = .ok (.goto (-98), 3) := by decide +kernel
theorem dX11_branch_316 : decode cX11_branch 316 = .ok (.aload_n 0, 1) := by decide +kernel
theorem dX11_branch_317 : decode cX11_branch 317 = .ok (.aload_n 0, 1) := by decide +kernel
theorem dX11_branch_318 : decode cX11_branch 318 = .ok (.getfield 286, 3) := by decide +kernel
theorem dX11_branch_321 : decode cX11_branch 321 = .ok (.bipush 20, 2) := by decide +kernel
theorem dX11_branch_323 : decode cX11_branch 323 = .ok (.if_icmp .ne 7, 3) := by decide +kernel
theorem dX11_branch_326 : decode cX11_branch 326 = .ok (.iconst 1, 1) := by decide +kernel
theorem dX11_branch_327 : decode cX11_branch 327 = .ok (.goto 4, 3) := by decide +kernel
theorem dX11_branch_330 : decode cX11_branch 330 = .ok (.iconst 0, 1) := by decide +kernel
theorem dX11_branch_331 : decode cX11_branch 331 = .ok (.invokevirtual 359, 3) := by decide +kernel
theorem dX11_branch_334 : decode cX11_branch 334 = .ok (.aload_n 0, 1) := by decide +kernel
theorem dX11_branch_335 : decode cX11_branch 335 = .ok (.bipush 6, 2) := by decide +kernel
theorem dX11_branch_337 : decode cX11_branch 337 = .ok (.iload 5, 2) := by decide +kernel
theorem dX11_branch_339 : decode cX11_branch 339 = .ok (.iconst 0, 1) := by decide +kernel
theorem dX11_branch_340 : decode cX11_branch 340 = .ok (.invokevirtual 372, 3) := by decide +kernel
theorem dX11_branch_343 : decode cX11_branch 343 = .ok (.aload_n 0, 1) := by decide +kernel
theorem dX11_branch_344 : decode cX11_branch 344 = .ok (.iconst 1, 1) := by decide +kernel
theorem dX11_branch_345 : decode cX11_branch 345 = .ok (.putfield 389, 3) := by decide +kernel
theorem dX11_branch_348 : decode cX11_branch 348 = .ok (.aload_n 0, 1) := by decide +kernel
theorem dX11_branch_349 : decode cX11_branch 349 = .ok (.iconst 1, 1) := by decide +kernel
theorem dX11_branch_350 : decode cX11_branch 350 = .ok (.putfield 393, 3) := by decide +kernel
theorem dX11_branch_353 : decode cX11_branch 353 = .ok (.return_, 1) := by decide +kernel
theorem mw_X11_branch : MW yX11_branch (Cond.code yX11_branch cX11_branch 9 (Option.none : Option Jvm.ClassFile.FieldType)) cX11_branch 9 (Option.none : Option Jvm.ClassFile.FieldType) 1 := ⟨rfl, ⟨(lw_all_tbl q3105), rfl, (lw_all_tbl q173)⟩, rfl, ⟨by decide, by decide⟩, by decide +kernel⟩
abbrev okt_branch_17 (x : Int × Int × Int) : Prop := R32 x.1 ∧ R32 x.2.1 ∧ R32 x.2.2
abbrev lvt_branch_17 (Γ : Gm) (x : Int × Int × Int) : List (Nat × Value) := [(0, vA (mg Γ) 21), (1, vI x.1), (2, vI x.2.1), (3, vI x.2.2)]
noncomputable def t_branch_17b {A : Type} (k_34 : Int → Int → Mo TS A) (l1 : Int) (l2 : Int) (l3 : Int) : Mo TS ((Int × Int × Int) ⊕ A) :=
  if l3 < 0 then
    lo (k_34 l1 l2)
  else
    bnd (rd 16 3200 l3) fun v1 =>
    pr (.inl (l1, (w32 (l2 + 1)), v1))
theorem st_branch_17b {Γ : Gm} {h : CH} {d : Nat} (hT : HT h) (o : Ok Γ "LazyForgeModel" cX11_branch 9 (Option.none : Option Jvm.ClassFile.FieldType) (d + 5)) {A : Type} {K : A → TS → Prop} (k_34 : Int → Int → Mo TS A) (hk_34 : ∀ (l1 : Int) (l2 : Int), R32 l1 → R32 l2 → Sx Γ (fun t => (h, t)) K 34 [(0, vA (mg Γ) 21), (1, vI l1), (2, vI l2)] [] (k_34 l1 l2)) (l1 : Int) (l2 : Int) (l3 : Int) (hl1 : R32 l1) (hl2 : R32 l2) (hl3 : R32 l3) : Sx Γ (fun t => (h, t)) (KL Γ (fun t => (h, t)) okt_branch_17 K 17 (lvt_branch_17 Γ) []) 17 [(0, vA (mg Γ) 21), (1, vI l1), (2, vI l2), (3, vI l3)] [] (t_branch_17b k_34 l1 l2 l3) := by
  unfold t_branch_17b
  refine s_iload_n o dX11_branch_17 rfl 3 rfl ?_
  refine s_if_lt (tgt := 34) o dX11_branch_18 (by decide) hl3 ?_ ?_
  · refine r_to [(0, vA (mg Γ) 21), (1, vI l1), (2, vI l2)] [0, 1, 2] rfl ?_
    exact s_lo (hk_34 l1 l2 hl1 hl2)
  · refine r_iinc (j := 2) o dX11_branch_21 rfl rfl [(0, vA (mg Γ) 21), (1, vI l1), (3, vI l3)] [0, 1, 3] rfl ⟨(Nat.ne_of_beq_eq_false rfl), (fun _ => (vA_cat (mg Γ) 21)), ⟨(Nat.ne_of_beq_eq_false rfl), (fun _ => rfl), ⟨(Nat.ne_of_beq_eq_false rfl), (fun _ => rfl), trivial⟩⟩⟩ ?_
    refine s_aload_n o dX11_branch_24 rfl 1 rfl ?_
    refine s_tga (x := 27) o hT tf_nexts ta_nexts (lw_all_tbl q2520) dX11_branch_25 ?_
    refine s_iload_n o dX11_branch_28 rfl 3 rfl ?_
    refine r_tiald o hT tr_nexts hl3 dX11_branch_29 (fun v1 hv1 => ?_)
    refine r_istore_nP o dX11_branch_30 rfl rfl [(2, vI (w32 (l2 + 1))), (0, vA (mg Γ) 21), (1, vI l1)] [0, 1, 2] rfl ⟨(Nat.ne_of_beq_eq_false rfl), (fun _ => rfl), ⟨(Nat.ne_of_beq_eq_false rfl), (fun _ => (vA_cat (mg Γ) 21)), ⟨(Nat.ne_of_beq_eq_false rfl), (fun _ => rfl), trivial⟩⟩⟩ ?_
    refine s_goto (tgt := 17) o dX11_branch_31 (by decide) ?_
    refine r_to [(0, vA (mg Γ) 21), (1, vI l1), (2, vI (w32 (l2 + 1))), (3, vI v1)] [2, 3, 1, 0] rfl ?_
    exact s_back (⟨hl1, (w32_R _), hv1⟩) rfl
noncomputable def t_branch_17 {A : Type} (k_34 : Int → Int → Mo TS A) (l1 : Int) (l2 : Int) (l3 : Int) : Mo TS A := Loop (fun x => t_branch_17b k_34 x.1 x.2.1 x.2.2) (l1, l2, l3)
theorem st_branch_17 {Γ : Gm} {h : CH} {d : Nat} (hT : HT h) (o : Ok Γ "LazyForgeModel" cX11_branch 9 (Option.none : Option Jvm.ClassFile.FieldType) (d + 5)) {A : Type} {K : A → TS → Prop} (k_34 : Int → Int → Mo TS A) (hk_34 : ∀ (l1 : Int) (l2 : Int), R32 l1 → R32 l2 → Sx Γ (fun t => (h, t)) K 34 [(0, vA (mg Γ) 21), (1, vI l1), (2, vI l2)] [] (k_34 l1 l2)) (l1 : Int) (l2 : Int) (l3 : Int) (hl1 : R32 l1) (hl2 : R32 l2) (hl3 : R32 l3) : Sx Γ (fun t => (h, t)) K 17 [(0, vA (mg Γ) 21), (1, vI l1), (2, vI l2), (3, vI l3)] [] (t_branch_17 k_34 l1 l2 l3) :=
  s_loop okt_branch_17 (lvt_branch_17 Γ) (fun x hx => st_branch_17b hT o k_34 hk_34 x.1 x.2.1 x.2.2 hx.1 hx.2.1 hx.2.2) (x := (l1, l2, l3)) ⟨hl1, hl2, hl3⟩
abbrev okt_branch_215 (x : Int × Int × Int) : Prop := R32 x.1 ∧ R32 x.2.1 ∧ R32 x.2.2
abbrev lvt_branch_215 (Γ : Gm) (x : Int × Int × Int) : List (Nat × Value) := [(0, vA (mg Γ) 21), (4, vI x.1), (5, vI x.2.1), (6, vI x.2.2)]
noncomputable def t_branch_310 {A : Type} (k_316 : Int → Mo TS A) (l4 : Int) (l5 : Int) (l6 : Int) : Mo TS ((Int × Int × Int) ⊕ A) :=
  pr (.inl (l4, l5, (w32 (l6 + 1))))
theorem st_branch_310 {Γ : Gm} {h : CH} {d : Nat} (hT : HT h) (o : Ok Γ "LazyForgeModel" cX11_branch 9 (Option.none : Option Jvm.ClassFile.FieldType) (d + 5)) {A : Type} {K : A → TS → Prop}  (k_316 : Int → Mo TS A) (hk_316 : ∀ (l5 : Int), R32 l5 → Sx Γ (fun t => (h, t)) K 316 [(0, vA (mg Γ) 21), (5, vI l5)] [] (k_316 l5)) (l4 : Int) (l5 : Int) (l6 : Int) (hl4 : R32 l4) (hl5 : R32 l5) (hl6 : R32 l6) : Sx Γ (fun t => (h, t)) (KL Γ (fun t => (h, t)) okt_branch_215 K 215 (lvt_branch_215 Γ) []) 310 [(0, vA (mg Γ) 21), (4, vI l4), (5, vI l5), (6, vI l6)] [] (t_branch_310 k_316 l4 l5 l6) := by
  unfold t_branch_310
  refine r_iinc (j := 3) o dX11_branch_310 rfl rfl [(0, vA (mg Γ) 21), (4, vI l4), (5, vI l5)] [0, 1, 2] rfl ⟨(Nat.ne_of_beq_eq_false rfl), (fun _ => (vA_cat (mg Γ) 21)), ⟨(Nat.ne_of_beq_eq_false rfl), (fun _ => rfl), ⟨(Nat.ne_of_beq_eq_false rfl), (fun _ => rfl), trivial⟩⟩⟩ ?_
  refine s_goto (tgt := 215) o dX11_branch_313 (by decide) ?_
  refine r_to [(0, vA (mg Γ) 21), (4, vI l4), (5, vI l5), (6, vI (w32 (l6 + 1)))] [1, 2, 3, 0] rfl ?_
  exact s_back (⟨hl4, hl5, (w32_R _)⟩) rfl
noncomputable def t_branch_292 {A : Type} (k_316 : Int → Mo TS A) (l4 : Int) (l5 : Int) (l6 : Int) (l7 : Int) (k0 : Int) : Mo TS ((Int × Int × Int) ⊕ A) :=
  bnd (t_accept k0) fun _ =>
  bnd (gs 10) fun v1 =>
  if ¬ v1 = 0 then
    t_branch_310 k_316 l4 l5 l6
  else
    bnd (t_giveName l5 l7) fun _ =>
    t_branch_310 k_316 l4 l5 l6
theorem st_branch_292 {Γ : Gm} {h : CH} {d : Nat} (hT : HT h) (o : Ok Γ "LazyForgeModel" cX11_branch 9 (Option.none : Option Jvm.ClassFile.FieldType) (d + 5)) {A : Type} {K : A → TS → Prop}  (k_316 : Int → Mo TS A) (hk_316 : ∀ (l5 : Int), R32 l5 → Sx Γ (fun t => (h, t)) K 316 [(0, vA (mg Γ) 21), (5, vI l5)] [] (k_316 l5)) (l4 : Int) (l5 : Int) (l6 : Int) (l7 : Int) (k0 : Int) (hl4 : R32 l4) (hl5 : R32 l5) (hl6 : R32 l6) (hl7 : R64 l7) (hk0 : rg .boolean k0) : Sx Γ (fun t => (h, t)) (KL Γ (fun t => (h, t)) okt_branch_215 K 215 (lvt_branch_215 Γ) []) 292 [(0, vA (mg Γ) 21), (4, vI l4), (5, vI l5), (6, vI l6), (7, vJ l7)] [vI k0, vA (mg Γ) 21] (t_branch_292 k_316 l4 l5 l6 l7 k0) := by
  unfold t_branch_292
  refine s_cv (d := d + 4) (C := "LazyForgeModel") (As := [vI k0]) (st := []) o (st_accept (mg Γ) d h hT k0 hk0) mw_X11_accept rfl (Or.inl (lw_all_tbl q2979)) (lw_all_tbl qs65) (lw_all_tbl q2981) (fun t => rc_t o hT t) wt_0 rfl dX11_branch_292 rfl (rs := fun _ => []) (fun _ => rfl) (fun _ _ => ?_)
  refine s_aload_n o dX11_branch_295 rfl 0 rfl ?_
  refine r_tgf vI rfl o hT tf_fault tj_fault (lw_all_tbl q2514) dX11_branch_296 (fun v1 hv1 => ?_)
  refine s_if_ne (tgt := 310) o dX11_branch_299 (by decide) hv1 ?_ ?_
  · refine r_to [(0, vA (mg Γ) 21), (4, vI l4), (5, vI l5), (6, vI l6)] [0, 1, 2, 3] rfl ?_
    exact st_branch_310 hT o k_316 hk_316 l4 l5 l6 hl4 hl5 hl6
  · refine s_aload_n o dX11_branch_302 rfl 0 rfl ?_
    refine s_iload o dX11_branch_303 2 rfl ?_
    refine s_lload o dX11_branch_305 4 rfl ?_
    refine s_cv (d := d + 4) (C := "LazyForgeModel") (As := [vI l5, vJ l7]) (st := []) o (st_giveName (mg Γ) (d + 4) h hT l5 l7 hl5 hl7) mw_X11_giveName rfl (Or.inl (lw_all_tbl q3011)) (lw_all_tbl qs73) (lw_all_tbl q3013) (fun t => rc_t o hT t) wt_0 rfl dX11_branch_307 rfl (rs := fun _ => []) (fun _ => rfl) (fun _ _ => ?_)
    refine r_to [(0, vA (mg Γ) 21), (4, vI l4), (5, vI l5), (6, vI l6)] [0, 1, 2, 3] rfl ?_
    exact st_branch_310 hT o k_316 hk_316 l4 l5 l6 hl4 hl5 hl6
noncomputable def t_branch_278 {A : Type} (k_316 : Int → Mo TS A) (l4 : Int) (l5 : Int) (l6 : Int) (l7 : Int) : Mo TS ((Int × Int × Int) ⊕ A) :=
  bnd (gs 6) fun v1 =>
  if ¬ v1 = 3 then
    t_branch_292 k_316 l4 l5 l6 l7 0
  else
    t_branch_292 k_316 l4 l5 l6 l7 1
theorem st_branch_278 {Γ : Gm} {h : CH} {d : Nat} (hT : HT h) (o : Ok Γ "LazyForgeModel" cX11_branch 9 (Option.none : Option Jvm.ClassFile.FieldType) (d + 5)) {A : Type} {K : A → TS → Prop}  (k_316 : Int → Mo TS A) (hk_316 : ∀ (l5 : Int), R32 l5 → Sx Γ (fun t => (h, t)) K 316 [(0, vA (mg Γ) 21), (5, vI l5)] [] (k_316 l5)) (l4 : Int) (l5 : Int) (l6 : Int) (l7 : Int) (hl4 : R32 l4) (hl5 : R32 l5) (hl6 : R32 l6) (hl7 : R64 l7) : Sx Γ (fun t => (h, t)) (KL Γ (fun t => (h, t)) okt_branch_215 K 215 (lvt_branch_215 Γ) []) 278 [(0, vA (mg Γ) 21), (4, vI l4), (5, vI l5), (6, vI l6), (7, vJ l7)] [] (t_branch_278 k_316 l4 l5 l6 l7) := by
  unfold t_branch_278
  refine s_aload_n o dX11_branch_278 rfl 0 rfl ?_
  refine s_aload_n o dX11_branch_279 rfl 0 rfl ?_
  refine r_tgf vI rfl o hT tf_word tj_word (lw_all_tbl q2510) dX11_branch_280 (fun v1 hv1 => ?_)
  refine s_iconst o dX11_branch_283 ?_
  refine s_icmp_ne (tgt := 291) o dX11_branch_284 (by decide) hv1 (r32 rfl) ?_ ?_
  · refine s_iconst o dX11_branch_291 ?_
    exact st_branch_292 hT o k_316 hk_316 l4 l5 l6 l7 0 hl4 hl5 hl6 hl7 (Or.inl rfl)
  · refine s_iconst o dX11_branch_287 ?_
    refine s_goto (tgt := 292) o dX11_branch_288 (by decide) ?_
    exact st_branch_292 hT o k_316 hk_316 l4 l5 l6 l7 1 hl4 hl5 hl6 hl7 (Or.inr rfl)
noncomputable def t_branch_215b {A : Type} (k_316 : Int → Mo TS A) (l4 : Int) (l5 : Int) (l6 : Int) : Mo TS ((Int × Int × Int) ⊕ A) :=
  bnd (rd 19 3200 l5) fun v1 =>
  if ¬ v1 = 0 then
    lo (k_316 l5)
  else
    bnd (rd 33 30 l4) fun v2 =>
    if v2 ≤ l6 then
      lo (k_316 l5)
    else
      bnd (gs 10) fun v3 =>
      if ¬ v3 = 0 then
        lo (k_316 l5)
      else
        bnd (gs 8) fun v4 =>
        bnd (gs 6) fun v5 =>
        if ¬ v5 = 3 then
          t_branch_278 k_316 l4 l5 l6 v4
        else
          bnd (t_isGiven l5 v4) fun v6 =>
          if v6 = 0 then
            t_branch_278 k_316 l4 l5 l6 v4
          else
            bnd (gs 7) fun v7 =>
            bnd (t_fail 2 v7) fun _ =>
            t_branch_278 k_316 l4 l5 l6 v4
theorem st_branch_215b {Γ : Gm} {h : CH} {d : Nat} (hT : HT h) (o : Ok Γ "LazyForgeModel" cX11_branch 9 (Option.none : Option Jvm.ClassFile.FieldType) (d + 5)) {A : Type} {K : A → TS → Prop} (k_316 : Int → Mo TS A) (hk_316 : ∀ (l5 : Int), R32 l5 → Sx Γ (fun t => (h, t)) K 316 [(0, vA (mg Γ) 21), (5, vI l5)] [] (k_316 l5)) (l4 : Int) (l5 : Int) (l6 : Int) (hl4 : R32 l4) (hl5 : R32 l5) (hl6 : R32 l6) : Sx Γ (fun t => (h, t)) (KL Γ (fun t => (h, t)) okt_branch_215 K 215 (lvt_branch_215 Γ) []) 215 [(0, vA (mg Γ) 21), (4, vI l4), (5, vI l5), (6, vI l6)] [] (t_branch_215b k_316 l4 l5 l6) := by
  unfold t_branch_215b
  refine s_aload_n o dX11_branch_215 rfl 0 rfl ?_
  refine s_tga (x := 30) o hT tf_sorts ta_sorts (lw_all_tbl q2523) dX11_branch_216 ?_
  refine s_iload o dX11_branch_219 2 rfl ?_
  refine r_tiald o hT tr_sorts hl5 dX11_branch_221 (fun v1 hv1 => ?_)
  refine s_if_ne (tgt := 316) o dX11_branch_222 (by decide) hv1 ?_ ?_
  · refine r_to [(0, vA (mg Γ) 21), (5, vI l5)] [0, 2] rfl ?_
    exact s_lo (hk_316 l5 hl5)
  · refine s_iload o dX11_branch_225 3 rfl ?_
    refine s_aload_n o dX11_branch_227 rfl 0 rfl ?_
    refine s_tga (x := 39) o hT tf_fieldCounts ta_fieldCounts (lw_all_tbl q2537) dX11_branch_228 ?_
    refine s_iload o dX11_branch_231 1 rfl ?_
    refine r_tiald o hT tr_fieldCounts hl4 dX11_branch_233 (fun v2 hv2 => ?_)
    refine s_icmp_ge (tgt := 316) o dX11_branch_234 (by decide) hl6 hv2 ?_ ?_
    · refine r_to [(0, vA (mg Γ) 21), (5, vI l5)] [0, 2] rfl ?_
      exact s_lo (hk_316 l5 hl5)
    · refine s_aload_n o dX11_branch_237 rfl 0 rfl ?_
      refine r_tgf vI rfl o hT tf_fault tj_fault (lw_all_tbl q2514) dX11_branch_238 (fun v3 hv3 => ?_)
      refine s_if_ne (tgt := 316) o dX11_branch_241 (by decide) hv3 ?_ ?_
      · refine r_to [(0, vA (mg Γ) 21), (5, vI l5)] [0, 2] rfl ?_
        exact s_lo (hk_316 l5 hl5)
      · refine s_aload_n o dX11_branch_244 rfl 0 rfl ?_
        refine r_tgf vJ rfl o hT tf_wordName tj_wordName (lw_all_tbl q2512) dX11_branch_245 (fun v4 hv4 => ?_)
        refine r_lstore o dX11_branch_248 rfl ⟨(Nat.ne_of_beq_eq_false rfl), (Nat.ne_of_beq_eq_false rfl), (fun _ => (vA_cat (mg Γ) 21)), ⟨(Nat.ne_of_beq_eq_false rfl), (Nat.ne_of_beq_eq_false rfl), (fun _ => rfl), ⟨(Nat.ne_of_beq_eq_false rfl), (Nat.ne_of_beq_eq_false rfl), (fun _ => rfl), ⟨(Nat.ne_of_beq_eq_false rfl), (Nat.ne_of_beq_eq_false rfl), (fun _ => rfl), trivial⟩⟩⟩⟩ ?_
        refine s_aload_n o dX11_branch_250 rfl 1 rfl ?_
        refine r_tgf vI rfl o hT tf_word tj_word (lw_all_tbl q2510) dX11_branch_251 (fun v5 hv5 => ?_)
        refine s_iconst o dX11_branch_254 ?_
        refine s_icmp_ne (tgt := 278) o dX11_branch_255 (by decide) hv5 (r32 rfl) ?_ ?_
        · refine r_to [(0, vA (mg Γ) 21), (4, vI l4), (5, vI l5), (6, vI l6), (7, vJ v4)] [1, 2, 3, 4, 0] rfl ?_
          exact st_branch_278 hT o k_316 hk_316 l4 l5 l6 v4 hl4 hl5 hl6 hv4
        · refine s_aload_n o dX11_branch_258 rfl 1 rfl ?_
          refine s_iload o dX11_branch_259 3 rfl ?_
          refine s_lload o dX11_branch_261 0 rfl ?_
          refine s_cv (d := d + 4) (C := "LazyForgeModel") (As := [vI l5, vJ v4]) (st := []) o (st_isGiven (mg Γ) (d + 4) h hT l5 v4 hl5 hv4) mw_X11_isGiven rfl (Or.inl (lw_all_tbl q3003)) (lw_all_tbl qs71) (lw_all_tbl q3005) (fun t => rc_t o hT t) wt_0 rfl dX11_branch_263 rfl (rs := fun r => [vI r]) (fun _ => rfl) (fun v6 hv6 => ?_)
          refine s_if_eq (tgt := 278) o dX11_branch_266 (by decide) (rZ (hv6 _ rfl)) ?_ ?_
          · refine r_to [(0, vA (mg Γ) 21), (4, vI l4), (5, vI l5), (6, vI l6), (7, vJ v4)] [1, 2, 3, 4, 0] rfl ?_
            exact st_branch_278 hT o k_316 hk_316 l4 l5 l6 v4 hl4 hl5 hl6 hv4
          · refine s_aload_n o dX11_branch_269 rfl 1 rfl ?_
            refine s_iconst o dX11_branch_270 ?_
            refine s_aload_n o dX11_branch_271 rfl 1 rfl ?_
            refine r_tgf vI rfl o hT tf_wordPlace tj_wordPlace (lw_all_tbl q2511) dX11_branch_272 (fun v7 hv7 => ?_)
            refine s_cv (d := d + 4) (C := "LazyForgeModel") (As := [vI 2, vI v7]) (st := []) o (st_fail (mg Γ) (d + 4) h hT 2 v7 (r32 rfl) hv7) mw_X11_fail rfl (Or.inl (lw_all_tbl q2975)) (lw_all_tbl qs64) (lw_all_tbl q2977) (fun t => rc_t o hT t) wt_0 rfl dX11_branch_275 rfl (rs := fun _ => []) (fun _ => rfl) (fun _ _ => ?_)
            refine r_to [(0, vA (mg Γ) 21), (4, vI l4), (5, vI l5), (6, vI l6), (7, vJ v4)] [1, 2, 3, 4, 0] rfl ?_
            exact st_branch_278 hT o k_316 hk_316 l4 l5 l6 v4 hl4 hl5 hl6 hv4
noncomputable def t_branch_215 {A : Type} (k_316 : Int → Mo TS A) (l4 : Int) (l5 : Int) (l6 : Int) : Mo TS A := Loop (fun x => t_branch_215b k_316 x.1 x.2.1 x.2.2) (l4, l5, l6)
theorem st_branch_215 {Γ : Gm} {h : CH} {d : Nat} (hT : HT h) (o : Ok Γ "LazyForgeModel" cX11_branch 9 (Option.none : Option Jvm.ClassFile.FieldType) (d + 5)) {A : Type} {K : A → TS → Prop} (k_316 : Int → Mo TS A) (hk_316 : ∀ (l5 : Int), R32 l5 → Sx Γ (fun t => (h, t)) K 316 [(0, vA (mg Γ) 21), (5, vI l5)] [] (k_316 l5)) (l4 : Int) (l5 : Int) (l6 : Int) (hl4 : R32 l4) (hl5 : R32 l5) (hl6 : R32 l6) : Sx Γ (fun t => (h, t)) K 215 [(0, vA (mg Γ) 21), (4, vI l4), (5, vI l5), (6, vI l6)] [] (t_branch_215 k_316 l4 l5 l6) :=
  s_loop okt_branch_215 (lvt_branch_215 Γ) (fun x hx => st_branch_215b hT o k_316 hk_316 x.1 x.2.1 x.2.2 hx.1 hx.2.1 hx.2.2) (x := (l4, l5, l6)) ⟨hl4, hl5, hl6⟩
noncomputable def t_branch_331  (l5 : Int) (k0 : Int) : Mo TS Int :=
  bnd (t_accept k0) fun _ =>
  bnd (t_pile 6 l5 0) fun _ =>
  bnd (ss 43 1) fun _ =>
  bnd (ss 42 1) fun _ =>
  pr 0
theorem st_branch_331 {Γ : Gm} {h : CH} {d : Nat} (hT : HT h) (o : Ok Γ "LazyForgeModel" cX11_branch 9 (Option.none : Option Jvm.ClassFile.FieldType) (d + 5))   (l5 : Int) (k0 : Int) (hl5 : R32 l5) (hk0 : rg .boolean k0) : Sx Γ (fun t => (h, t)) (fun a s => mt Γ = (0, a, ((h, s) : Wd))) 331 [(0, vA (mg Γ) 21), (5, vI l5)] [vI k0, vA (mg Γ) 21] (t_branch_331 l5 k0) := by
  unfold t_branch_331
  refine s_cv (d := d + 4) (C := "LazyForgeModel") (As := [vI k0]) (st := []) o (st_accept (mg Γ) d h hT k0 hk0) mw_X11_accept rfl (Or.inl (lw_all_tbl q2979)) (lw_all_tbl qs65) (lw_all_tbl q2981) (fun t => rc_t o hT t) wt_0 rfl dX11_branch_331 rfl (rs := fun _ => []) (fun _ => rfl) (fun _ _ => ?_)
  refine s_aload_n o dX11_branch_334 rfl 0 rfl ?_
  refine s_bipush o dX11_branch_335 rfl ?_
  refine s_iload o dX11_branch_337 1 rfl ?_
  refine s_iconst o dX11_branch_339 ?_
  refine s_cv (d := d + 4) (C := "LazyForgeModel") (As := [vI 6, vI l5, vI 0]) (st := []) o (st_pile (mg Γ) (d + 4) h hT 6 l5 0 (r32 rfl) hl5 (r32 rfl)) mw_X11_pile rfl (Or.inl (lw_all_tbl q3019)) (lw_all_tbl qs75) (lw_all_tbl q3021) (fun t => rc_t o hT t) wt_0 rfl dX11_branch_340 rfl (rs := fun _ => []) (fun _ => rfl) (fun _ _ => ?_)
  refine s_aload_n o dX11_branch_343 rfl 0 rfl ?_
  refine s_iconst o dX11_branch_344 ?_
  refine r_tpf vI rfl o hT tf_wants tj_wants (lw_all_tbl q2547) dX11_branch_345 (Or.inr rfl) ty_boolean ?_
  refine s_aload_n o dX11_branch_348 rfl 0 rfl ?_
  refine s_iconst o dX11_branch_349 ?_
  refine r_tpf vI rfl o hT tf_startsE tj_startsE (lw_all_tbl q2546) dX11_branch_350 (Or.inr rfl) ty_boolean ?_
  exact s_vret o rfl dX11_branch_353 (fun _ hh => hh)
noncomputable def t_branch_207  (l4 : Int) (l5 : Int) (k0 : Int) (k1 : Int) : Mo TS Int :=
  bnd (wr 18 3200 k1 k0) fun _ =>
  bnd (t_next) fun _ =>
  t_branch_215
    (fun v1 => bnd (gs 6) fun v2 =>
  if ¬ v2 = 20 then
    t_branch_331 v1 0
  else
    t_branch_331 v1 1) l4 l5 0
theorem st_branch_207 {Γ : Gm} {h : CH} {d : Nat} (hT : HT h) (o : Ok Γ "LazyForgeModel" cX11_branch 9 (Option.none : Option Jvm.ClassFile.FieldType) (d + 5))   (l4 : Int) (l5 : Int) (k0 : Int) (k1 : Int) (hl4 : R32 l4) (hl5 : R32 l5) (hk0 : R32 k0) (hk1 : R32 k1) : Sx Γ (fun t => (h, t)) (fun a s => mt Γ = (0, a, ((h, s) : Wd))) 207 [(0, vA (mg Γ) 21), (4, vI l4), (5, vI l5)] [vI k0, vI k1, vA (mg Γ) 29] (t_branch_207 l4 l5 k0 k1) := by
  unfold t_branch_207
  refine r_tiast o hT tr_values hk1 hk0 dX11_branch_207 ?_
  refine s_aload_n o dX11_branch_208 rfl 0 rfl ?_
  refine s_cv (d := d + 4) (C := "LazyForgeModel") (As := []) (st := []) o (st_next (mg Γ) (d + 1) h hT) mw_X11_next rfl (Or.inl (lw_all_tbl q2932)) (lw_all_tbl qs57) (lw_all_tbl q2934) (fun t => rc_t o hT t) wt_0 rfl dX11_branch_209 rfl (rs := fun _ => []) (fun _ => rfl) (fun _ _ => ?_)
  refine s_iconst o dX11_branch_212 ?_
  refine r_istore o dX11_branch_213 rfl ⟨(Nat.ne_of_beq_eq_false rfl), (fun _ => (vA_cat (mg Γ) 21)), ⟨(Nat.ne_of_beq_eq_false rfl), (fun _ => rfl), ⟨(Nat.ne_of_beq_eq_false rfl), (fun _ => rfl), trivial⟩⟩⟩ ?_
  refine r_to [(0, vA (mg Γ) 21), (4, vI l4), (5, vI l5), (6, vI 0)] [1, 2, 3, 0] rfl ?_
  refine st_branch_215 hT o _ ?_ l4 l5 0 hl4 hl5 (r32 rfl)
  · intro v1 hv1
    refine s_aload_n o dX11_branch_316 rfl 0 rfl ?_
    refine s_aload_n o dX11_branch_317 rfl 0 rfl ?_
    refine r_tgf vI rfl o hT tf_word tj_word (lw_all_tbl q2510) dX11_branch_318 (fun v2 hv2 => ?_)
    refine s_bipush o dX11_branch_321 rfl ?_
    refine s_icmp_ne (tgt := 330) o dX11_branch_323 (by decide) hv2 (r32 rfl) ?_ ?_
    · refine s_iconst o dX11_branch_330 ?_
      exact st_branch_331 hT o v1 0 hv1 (Or.inl rfl)
    · refine s_iconst o dX11_branch_326 ?_
      refine s_goto (tgt := 331) o dX11_branch_327 (by decide) ?_
      exact st_branch_331 hT o v1 1 hv1 (Or.inr rfl)
noncomputable def t_branch_183  (l4 : Int) (l5 : Int) (k0 : Int) (k1 : Int) : Mo TS Int :=
  bnd (wr 19 3200 k1 k0) fun _ =>
  bnd (gs 6) fun v1 =>
  if ¬ v1 = 4 then
    bnd (gs 9) fun v2 =>
    t_branch_207 l4 l5 v2 l5
  else
    t_branch_207 l4 l5 l4 l5
theorem st_branch_183 {Γ : Gm} {h : CH} {d : Nat} (hT : HT h) (o : Ok Γ "LazyForgeModel" cX11_branch 9 (Option.none : Option Jvm.ClassFile.FieldType) (d + 5))   (l4 : Int) (l5 : Int) (k0 : Int) (k1 : Int) (hl4 : R32 l4) (hl5 : R32 l5) (hk0 : R32 k0) (hk1 : R32 k1) : Sx Γ (fun t => (h, t)) (fun a s => mt Γ = (0, a, ((h, s) : Wd))) 183 [(0, vA (mg Γ) 21), (4, vI l4), (5, vI l5)] [vI k0, vI k1, vA (mg Γ) 30] (t_branch_183 l4 l5 k0 k1) := by
  unfold t_branch_183
  refine r_tiast o hT tr_sorts hk1 hk0 dX11_branch_183 ?_
  refine s_aload_n o dX11_branch_184 rfl 0 rfl ?_
  refine s_tga (x := 29) o hT tf_values ta_values (lw_all_tbl q2522) dX11_branch_185 ?_
  refine s_iload o dX11_branch_188 2 rfl ?_
  refine s_aload_n o dX11_branch_190 rfl 0 rfl ?_
  refine r_tgf vI rfl o hT tf_word tj_word (lw_all_tbl q2510) dX11_branch_191 (fun v1 hv1 => ?_)
  refine s_iconst o dX11_branch_194 ?_
  refine s_icmp_ne (tgt := 203) o dX11_branch_195 (by decide) hv1 (r32 rfl) ?_ ?_
  · refine s_aload_n o dX11_branch_203 rfl 0 rfl ?_
    refine r_tgf vI rfl o hT tf_wordNumber tj_wordNumber (lw_all_tbl q2513) dX11_branch_204 (fun v2 hv2 => ?_)
    exact st_branch_207 hT o l4 l5 v2 l5 hl4 hl5 hv2 hl5
  · refine s_iload o dX11_branch_198 1 rfl ?_
    refine s_goto (tgt := 207) o dX11_branch_200 (by decide) ?_
    exact st_branch_207 hT o l4 l5 l4 l5 hl4 hl5 hl4 hl5
noncomputable def t_branch_130  (l1 : Int) (l4 : Int) : Mo TS Int :=
  bnd (gs 10) fun v1 =>
  if v1 ≤ 0 then
    bnd (t_node 4) fun v2 =>
    bnd (t_append l1 v2) fun _ =>
    bnd (gs 6) fun v3 =>
    if ¬ v3 = 4 then
      bnd (gs 6) fun v4 =>
      if ¬ v4 = 2 then
        t_branch_183 l4 v2 2 v2
      else
        t_branch_183 l4 v2 1 v2
    else
      t_branch_183 l4 v2 0 v2
  else
    pr 0
theorem st_branch_130 {Γ : Gm} {h : CH} {d : Nat} (hT : HT h) (o : Ok Γ "LazyForgeModel" cX11_branch 9 (Option.none : Option Jvm.ClassFile.FieldType) (d + 5))   (l1 : Int) (l4 : Int) (hl1 : R32 l1) (hl4 : R32 l4) : Sx Γ (fun t => (h, t)) (fun a s => mt Γ = (0, a, ((h, s) : Wd))) 130 [(0, vA (mg Γ) 21), (1, vI l1), (4, vI l4)] [] (t_branch_130 l1 l4) := by
  unfold t_branch_130
  refine s_aload_n o dX11_branch_130 rfl 0 rfl ?_
  refine r_tgf vI rfl o hT tf_fault tj_fault (lw_all_tbl q2514) dX11_branch_131 (fun v1 hv1 => ?_)
  refine s_if_le (tgt := 138) o dX11_branch_134 (by decide) hv1 ?_ ?_
  · refine s_aload_n o dX11_branch_138 rfl 0 rfl ?_
    refine s_iconst o dX11_branch_139 ?_
    refine s_cv (d := d + 4) (C := "LazyForgeModel") (As := [vI 4]) (st := []) o (st_node (mg Γ) (d + 4) h hT 4 (r32 rfl)) mw_X11_node rfl (Or.inl (lw_all_tbl q2995)) (lw_all_tbl qs69) (lw_all_tbl q2997) (fun t => rc_t o hT t) wt_0 rfl dX11_branch_140 rfl (rs := fun r => [vI r]) (fun _ => rfl) (fun v2 hv2 => ?_)
    refine r_istore o dX11_branch_143 rfl ⟨(Nat.ne_of_beq_eq_false rfl), (fun _ => (vA_cat (mg Γ) 21)), ⟨(Nat.ne_of_beq_eq_false rfl), (fun _ => rfl), ⟨(Nat.ne_of_beq_eq_false rfl), (fun _ => rfl), trivial⟩⟩⟩ ?_
    refine s_aload_n o dX11_branch_145 rfl 1 rfl ?_
    refine s_iload_n o dX11_branch_146 rfl 2 rfl ?_
    refine s_iload o dX11_branch_147 0 rfl ?_
    refine s_cv (d := d + 4) (C := "LazyForgeModel") (As := [vI l1, vI v2]) (st := []) o (st_append (mg Γ) (d + 4) h hT l1 v2 hl1 (hv2 _ rfl)) mw_X11_append rfl (Or.inl (lw_all_tbl q3039)) (lw_all_tbl qs80) (lw_all_tbl q3041) (fun t => rc_t o hT t) wt_0 rfl dX11_branch_149 rfl (rs := fun _ => []) (fun _ => rfl) (fun _ _ => ?_)
    refine s_aload_n o dX11_branch_152 rfl 1 rfl ?_
    refine s_tga (x := 30) o hT tf_sorts ta_sorts (lw_all_tbl q2523) dX11_branch_153 ?_
    refine s_iload o dX11_branch_156 0 rfl ?_
    refine s_aload_n o dX11_branch_158 rfl 1 rfl ?_
    refine r_tgf vI rfl o hT tf_word tj_word (lw_all_tbl q2510) dX11_branch_159 (fun v3 hv3 => ?_)
    refine s_iconst o dX11_branch_162 ?_
    refine s_icmp_ne (tgt := 170) o dX11_branch_163 (by decide) hv3 (r32 rfl) ?_ ?_
    · refine s_aload_n o dX11_branch_170 rfl 1 rfl ?_
      refine r_tgf vI rfl o hT tf_word tj_word (lw_all_tbl q2510) dX11_branch_171 (fun v4 hv4 => ?_)
      refine s_iconst o dX11_branch_174 ?_
      refine s_icmp_ne (tgt := 182) o dX11_branch_175 (by decide) hv4 (r32 rfl) ?_ ?_
      · refine s_iconst o dX11_branch_182 ?_
        refine r_to [(0, vA (mg Γ) 21), (4, vI l4), (5, vI v2)] [1, 3, 0] rfl ?_
        exact st_branch_183 hT o l4 v2 2 v2 hl4 (hv2 _ rfl) (r32 rfl) (hv2 _ rfl)
      · refine s_iconst o dX11_branch_178 ?_
        refine s_goto (tgt := 183) o dX11_branch_179 (by decide) ?_
        refine r_to [(0, vA (mg Γ) 21), (4, vI l4), (5, vI v2)] [1, 3, 0] rfl ?_
        exact st_branch_183 hT o l4 v2 1 v2 hl4 (hv2 _ rfl) (r32 rfl) (hv2 _ rfl)
    · refine s_iconst o dX11_branch_166 ?_
      refine s_goto (tgt := 183) o dX11_branch_167 (by decide) ?_
      refine r_to [(0, vA (mg Γ) 21), (4, vI l4), (5, vI v2)] [1, 3, 0] rfl ?_
      exact st_branch_183 hT o l4 v2 0 v2 hl4 (hv2 _ rfl) (r32 rfl) (hv2 _ rfl)
  · exact s_vret o rfl dX11_branch_137 (fun _ hh => hh)
noncomputable def t_branch_85  (l1 : Int) (l2 : Int) (l3 : Int) (k0 : Int) : Mo TS Int :=
  if ¬ l3 = 0 then
    if 0 ≤ k0 then
      if ¬ l2 = 8 then
        t_branch_130 l1 k0
      else
        bnd (gs 7) fun v1 =>
        bnd (t_fail 4 v1) fun _ =>
        t_branch_130 l1 k0
    else
      bnd (gs 7) fun v2 =>
      bnd (t_fail 3 v2) fun _ =>
      t_branch_130 l1 k0
  else
    bnd (t_wrong) fun _ =>
    t_branch_130 l1 k0
theorem st_branch_85 {Γ : Gm} {h : CH} {d : Nat} (hT : HT h) (o : Ok Γ "LazyForgeModel" cX11_branch 9 (Option.none : Option Jvm.ClassFile.FieldType) (d + 5))   (l1 : Int) (l2 : Int) (l3 : Int) (k0 : Int) (hl1 : R32 l1) (hl2 : R32 l2) (hl3 : rg .boolean l3) (hk0 : R32 k0) : Sx Γ (fun t => (h, t)) (fun a s => mt Γ = (0, a, ((h, s) : Wd))) 85 [(0, vA (mg Γ) 21), (1, vI l1), (2, vI l2), (3, vI l3)] [vI k0] (t_branch_85 l1 l2 l3 k0) := by
  unfold t_branch_85
  refine r_istore o dX11_branch_85 rfl ⟨(Nat.ne_of_beq_eq_false rfl), (fun _ => (vA_cat (mg Γ) 21)), ⟨(Nat.ne_of_beq_eq_false rfl), (fun _ => rfl), ⟨(Nat.ne_of_beq_eq_false rfl), (fun _ => rfl), ⟨(Nat.ne_of_beq_eq_false rfl), (fun _ => rfl), trivial⟩⟩⟩⟩ ?_
  refine s_iload_n o dX11_branch_87 rfl 4 rfl ?_
  refine s_if_ne (tgt := 98) o dX11_branch_88 (by decide) (rZ hl3) ?_ ?_
  · refine s_iload o dX11_branch_98 0 rfl ?_
    refine s_if_ge (tgt := 115) o dX11_branch_100 (by decide) hk0 ?_ ?_
    · refine s_iload_n o dX11_branch_115 rfl 3 rfl ?_
      refine s_bipush o dX11_branch_116 rfl ?_
      refine s_icmp_ne (tgt := 130) o dX11_branch_118 (by decide) hl2 (r32 rfl) ?_ ?_
      · refine r_to [(0, vA (mg Γ) 21), (1, vI l1), (4, vI k0)] [1, 2, 0] rfl ?_
        exact st_branch_130 hT o l1 k0 hl1 hk0
      · refine s_aload_n o dX11_branch_121 rfl 1 rfl ?_
        refine s_iconst o dX11_branch_122 ?_
        refine s_aload_n o dX11_branch_123 rfl 1 rfl ?_
        refine r_tgf vI rfl o hT tf_wordPlace tj_wordPlace (lw_all_tbl q2511) dX11_branch_124 (fun v1 hv1 => ?_)
        refine s_cv (d := d + 4) (C := "LazyForgeModel") (As := [vI 4, vI v1]) (st := []) o (st_fail (mg Γ) (d + 4) h hT 4 v1 (r32 rfl) hv1) mw_X11_fail rfl (Or.inl (lw_all_tbl q2975)) (lw_all_tbl qs64) (lw_all_tbl q2977) (fun t => rc_t o hT t) wt_0 rfl dX11_branch_127 rfl (rs := fun _ => []) (fun _ => rfl) (fun _ _ => ?_)
        refine r_to [(0, vA (mg Γ) 21), (1, vI l1), (4, vI k0)] [1, 2, 0] rfl ?_
        exact st_branch_130 hT o l1 k0 hl1 hk0
    · refine s_aload_n o dX11_branch_103 rfl 1 rfl ?_
      refine s_iconst o dX11_branch_104 ?_
      refine s_aload_n o dX11_branch_105 rfl 1 rfl ?_
      refine r_tgf vI rfl o hT tf_wordPlace tj_wordPlace (lw_all_tbl q2511) dX11_branch_106 (fun v2 hv2 => ?_)
      refine s_cv (d := d + 4) (C := "LazyForgeModel") (As := [vI 3, vI v2]) (st := []) o (st_fail (mg Γ) (d + 4) h hT 3 v2 (r32 rfl) hv2) mw_X11_fail rfl (Or.inl (lw_all_tbl q2975)) (lw_all_tbl qs64) (lw_all_tbl q2977) (fun t => rc_t o hT t) wt_0 rfl dX11_branch_109 rfl (rs := fun _ => []) (fun _ => rfl) (fun _ _ => ?_)
      refine s_goto (tgt := 130) o dX11_branch_112 (by decide) ?_
      refine r_to [(0, vA (mg Γ) 21), (1, vI l1), (4, vI k0)] [1, 2, 0] rfl ?_
      exact st_branch_130 hT o l1 k0 hl1 hk0
  · refine s_aload_n o dX11_branch_91 rfl 1 rfl ?_
    refine s_cv (d := d + 4) (C := "LazyForgeModel") (As := []) (st := []) o (st_wrong (mg Γ) (d + 3) h hT) mw_X11_wrong rfl (Or.inl (lw_all_tbl q2983)) (lw_all_tbl qs66) (lw_all_tbl q2985) (fun t => rc_t o hT t) wt_0 rfl dX11_branch_92 rfl (rs := fun _ => []) (fun _ => rfl) (fun _ _ => ?_)
    refine s_goto (tgt := 130) o dX11_branch_95 (by decide) ?_
    refine r_to [(0, vA (mg Γ) 21), (1, vI l1), (4, vI k0)] [1, 2, 0] rfl ?_
    exact st_branch_130 hT o l1 k0 hl1 hk0
noncomputable def t_branch_64  (l1 : Int) (l2 : Int) (k0 : Int) : Mo TS Int :=
  bnd (gs 6) fun v1 =>
  if ¬ v1 = 4 then
    t_branch_85 l1 l2 k0 0
  else
    bnd (gs 8) fun v2 =>
    bnd (t_findConstructor v2) fun v3 =>
    t_branch_85 l1 l2 k0 v3
theorem st_branch_64 {Γ : Gm} {h : CH} {d : Nat} (hT : HT h) (o : Ok Γ "LazyForgeModel" cX11_branch 9 (Option.none : Option Jvm.ClassFile.FieldType) (d + 5))   (l1 : Int) (l2 : Int) (k0 : Int) (hl1 : R32 l1) (hl2 : R32 l2) (hk0 : rg .boolean k0) : Sx Γ (fun t => (h, t)) (fun a s => mt Γ = (0, a, ((h, s) : Wd))) 64 [(0, vA (mg Γ) 21), (1, vI l1), (2, vI l2)] [vI k0] (t_branch_64 l1 l2 k0) := by
  unfold t_branch_64
  refine r_istore_n o dX11_branch_64 rfl rfl ⟨(Nat.ne_of_beq_eq_false rfl), (fun _ => (vA_cat (mg Γ) 21)), ⟨(Nat.ne_of_beq_eq_false rfl), (fun _ => rfl), ⟨(Nat.ne_of_beq_eq_false rfl), (fun _ => rfl), trivial⟩⟩⟩ ?_
  refine s_aload_n o dX11_branch_65 rfl 1 rfl ?_
  refine r_tgf vI rfl o hT tf_word tj_word (lw_all_tbl q2510) dX11_branch_66 (fun v1 hv1 => ?_)
  refine s_iconst o dX11_branch_69 ?_
  refine s_icmp_ne (tgt := 84) o dX11_branch_70 (by decide) hv1 (r32 rfl) ?_ ?_
  · refine s_iconst o dX11_branch_84 ?_
    refine r_to [(0, vA (mg Γ) 21), (1, vI l1), (2, vI l2), (3, vI k0)] [1, 2, 3, 0] rfl ?_
    exact st_branch_85 hT o l1 l2 k0 0 hl1 hl2 hk0 (r32 rfl)
  · refine s_aload_n o dX11_branch_73 rfl 1 rfl ?_
    refine s_aload_n o dX11_branch_74 rfl 1 rfl ?_
    refine r_tgf vJ rfl o hT tf_wordName tj_wordName (lw_all_tbl q2512) dX11_branch_75 (fun v2 hv2 => ?_)
    refine s_cv (d := d + 4) (C := "LazyForgeModel") (As := [vJ v2]) (st := []) o (st_findConstructor (mg Γ) (d + 4) h hT v2 hv2) mw_X11_findConstructor rfl (Or.inl (lw_all_tbl q2971)) (lw_all_tbl qs63) (lw_all_tbl q2973) (fun t => rc_t o hT t) wt_0 rfl dX11_branch_78 rfl (rs := fun r => [vI r]) (fun _ => rfl) (fun v3 hv3 => ?_)
    refine s_goto (tgt := 85) o dX11_branch_81 (by decide) ?_
    refine r_to [(0, vA (mg Γ) 21), (1, vI l1), (2, vI l2), (3, vI k0)] [1, 2, 3, 0] rfl ?_
    exact st_branch_85 hT o l1 l2 k0 v3 hl1 hl2 hk0 (hv3 _ rfl)
noncomputable def t_branch_59  (l1 : Int) (l2 : Int) : Mo TS Int :=
  t_branch_64 l1 l2 1
theorem st_branch_59 {Γ : Gm} {h : CH} {d : Nat} (hT : HT h) (o : Ok Γ "LazyForgeModel" cX11_branch 9 (Option.none : Option Jvm.ClassFile.FieldType) (d + 5))   (l1 : Int) (l2 : Int) (hl1 : R32 l1) (hl2 : R32 l2) : Sx Γ (fun t => (h, t)) (fun a s => mt Γ = (0, a, ((h, s) : Wd))) 59 [(0, vA (mg Γ) 21), (1, vI l1), (2, vI l2)] [] (t_branch_59 l1 l2) := by
  unfold t_branch_59
  refine s_iconst o dX11_branch_59 ?_
  refine s_goto (tgt := 64) o dX11_branch_60 (by decide) ?_
  exact st_branch_64 hT o l1 l2 1 hl1 hl2 (Or.inr rfl)
noncomputable def t_branch (l1 : Int) : Mo TS Int :=
  bnd (gs 10) fun v1 =>
  if v1 ≤ 0 then
    bnd (rd 14 3200 l1) fun v2 =>
    t_branch_17
      (fun v3 v4 => bnd (gs 6) fun v5 =>
    if v5 = 4 then
      t_branch_59 v3 v4
    else
      bnd (gs 6) fun v6 =>
      if v6 = 2 then
        t_branch_59 v3 v4
      else
        bnd (t_isSign 95) fun v7 =>
        if v7 = 0 then
          t_branch_64 v3 v4 0
        else
          t_branch_59 v3 v4) l1 0 v2
  else
    pr 0
theorem st_branch (g : gC) (d : Nat) (h : CH) (hT : HT h) (l1 : Int) (hl1 : R32 l1) : SF g yX11_branch (Cond.code yX11_branch cX11_branch 9 (Option.none : Option Jvm.ClassFile.FieldType)) (Option.none : Option Jvm.ClassFile.FieldType) (d + 5) [vA g 21, vI l1] (fun t => (h, t)) (t_branch l1) := by
  refine SF.of (lv := [(0, vA g 21), (1, vI l1)]) (by decide) (wt_A (wt_I wt_0)) rfl (by simp only [la_A, la_I, la_J, la_0]) (fun Γ hg hnm o => ?_)
  subst hg
  have o : Ok Γ "LazyForgeModel" cX11_branch 9 (Option.none : Option Jvm.ClassFile.FieldType) (d + 5) := o
  unfold t_branch
  refine s_aload_n o dX11_branch_0 rfl 0 rfl ?_
  refine r_tgf vI rfl o hT tf_fault tj_fault (lw_all_tbl q2514) dX11_branch_1 (fun v1 hv1 => ?_)
  refine s_if_le (tgt := 8) o dX11_branch_4 (by decide) hv1 ?_ ?_
  · refine s_iconst o dX11_branch_8 ?_
    refine r_istore_n o dX11_branch_9 rfl rfl ⟨(Nat.ne_of_beq_eq_false rfl), (fun _ => (vA_cat (mg Γ) 21)), ⟨(Nat.ne_of_beq_eq_false rfl), (fun _ => rfl), trivial⟩⟩ ?_
    refine s_aload_n o dX11_branch_10 rfl 1 rfl ?_
    refine s_tga (x := 25) o hT tf_firsts ta_firsts (lw_all_tbl q2518) dX11_branch_11 ?_
    refine s_iload_n o dX11_branch_14 rfl 2 rfl ?_
    refine r_tiald o hT tr_firsts hl1 dX11_branch_15 (fun v2 hv2 => ?_)
    refine r_istore_n o dX11_branch_16 rfl rfl ⟨(Nat.ne_of_beq_eq_false rfl), (fun _ => rfl), ⟨(Nat.ne_of_beq_eq_false rfl), (fun _ => (vA_cat (mg Γ) 21)), ⟨(Nat.ne_of_beq_eq_false rfl), (fun _ => rfl), trivial⟩⟩⟩ ?_
    refine r_to [(0, vA (mg Γ) 21), (1, vI l1), (2, vI 0), (3, vI v2)] [2, 3, 1, 0] rfl ?_
    refine st_branch_17 hT o _ ?_ l1 0 v2 hl1 (r32 rfl) hv2
    · intro v3 v4 hv3 hv4
      refine s_aload_n o dX11_branch_34 rfl 0 rfl ?_
      refine r_tgf vI rfl o hT tf_word tj_word (lw_all_tbl q2510) dX11_branch_35 (fun v5 hv5 => ?_)
      refine s_iconst o dX11_branch_38 ?_
      refine s_icmp_eq (tgt := 59) o dX11_branch_39 (by decide) hv5 (r32 rfl) ?_ ?_
      · exact st_branch_59 hT o v3 v4 hv3 hv4
      · refine s_aload_n o dX11_branch_42 rfl 0 rfl ?_
        refine r_tgf vI rfl o hT tf_word tj_word (lw_all_tbl q2510) dX11_branch_43 (fun v6 hv6 => ?_)
        refine s_iconst o dX11_branch_46 ?_
        refine s_icmp_eq (tgt := 59) o dX11_branch_47 (by decide) hv6 (r32 rfl) ?_ ?_
        · exact st_branch_59 hT o v3 v4 hv3 hv4
        · refine s_aload_n o dX11_branch_50 rfl 0 rfl ?_
          refine s_bipush o dX11_branch_51 rfl ?_
          refine s_cv (d := d + 4) (C := "LazyForgeModel") (As := [vI 95]) (st := []) o (st_isSign (mg Γ) (d + 4) h hT 95 (r32 rfl)) mw_X11_isSign rfl (Or.inl (lw_all_tbl q2987)) (lw_all_tbl qs67) (lw_all_tbl q2989) (fun t => rc_t o hT t) wt_0 rfl dX11_branch_53 rfl (rs := fun r => [vI r]) (fun _ => rfl) (fun v7 hv7 => ?_)
          refine s_if_eq (tgt := 63) o dX11_branch_56 (by decide) (rZ (hv7 _ rfl)) ?_ ?_
          · refine s_iconst o dX11_branch_63 ?_
            exact st_branch_64 hT o v3 v4 0 hv3 hv4 (Or.inl rfl)
          · exact st_branch_59 hT o v3 v4 hv3 hv4
  · exact s_vret o rfl dX11_branch_7 (fun _ hh => hh)
theorem dX11_arguments_0 : decode cX11_arguments 0 = .ok (.aload_n 0, 1) := by decide +kernel
theorem dX11_arguments_1 : decode cX11_arguments 1 = .ok (.getfield 122, 3) := by decide +kernel
theorem dX11_arguments_4 : decode cX11_arguments 4 = .ok (.aload_n 0, 1) := by decide +kernel
theorem dX11_arguments_5 : decode cX11_arguments 5 = .ok (.iload_n 1, 1) := by decide +kernel
theorem dX11_arguments_6 : decode cX11_arguments 6 = .ok (.iconst 0, 1) := by decide +kernel
theorem dX11_arguments_7 : decode cX11_arguments 7 = .ok (.invokevirtual 545, 3) := by decide +kernel
theorem dX11_arguments_10 : decode cX11_arguments 10 = .ok (.iaload, 1) := by decide +kernel
theorem dX11_arguments_11 : decode cX11_arguments 11 = .ok (.istore_n 3, 1) := by decide +kernel
theorem dX11_arguments_12 : decode cX11_arguments 12 = .ok (.aload_n 0, 1) := by decide +kernel
theorem dX11_arguments_13 : decode cX11_arguments 13 = .ok (.getfield 171, 3) := by decide +kernel
theorem dX11_arguments_16 : decode cX11_arguments 16 = .ok (.iload_n 3, 1) := by decide +kernel
theorem dX11_arguments_17 : decode cX11_arguments 17 = .ok (.iaload, 1) := by decide +kernel
theorem dX11_arguments_18 : decode cX11_arguments 18 = .ok (.istore 4, 2) := by decide +kernel
theorem dX11_arguments_20 : decode cX11_arguments 20 = .ok (.aload_n 0, 1) := by decide +kernel
theorem dX11_arguments_21 : decode cX11_arguments 21 = .ok (.getfield 128, 3) := by decide +kernel
theorem dX11_arguments_24 : decode cX11_arguments 24 = .ok (.iload_n 1, 1) := by decide +kernel
theorem dX11_arguments_25 : decode cX11_arguments 25 = .ok (.iaload, 1) := by decide +kernel
theorem dX11_arguments_26 : decode cX11_arguments 26 = .ok (.iconst 1, 1) := by decide +kernel
theorem dX11_arguments_27 : decode cX11_arguments 27 = .ok (.isub, 1) := by decide +kernel
theorem dX11_arguments_28 : decode cX11_arguments 28 = .ok (.istore 5, 2) := by decide +kernel
theorem dX11_arguments_30 : decode cX11_arguments 30 = .ok (.iload_n 2, 1) := by decide +kernel
theorem dX11_arguments_31 : decode cX11_arguments 31 = .ok (.istore 6, 2) := by decide +kernel
theorem dX11_arguments_33 : decode cX11_arguments 33 = .ok (.iload 6, 2) := by decide +kernel
theorem dX11_arguments_35 : decode cX11_arguments 35 = .ok (.iload 5, 2) := by decide +kernel
theorem dX11_arguments_37 : decode cX11_arguments 37 = .ok (.if_icmp .ge 95, 3) := by decide +kernel
theorem dX11_arguments_40 : decode cX11_arguments 40 = .ok (.aload_n 0, 1) := by decide +kernel
theorem dX11_arguments_41 : decode cX11_arguments 41 = .ok (.getfield 605, 3) := by decide +kernel
theorem dX11_arguments_44 : decode cX11_arguments 44 = .ok (.ifCond .ne 88, 3) := by decide +kernel
theorem dX11_arguments_47 : decode cX11_arguments 47 = .ok (.iload 6, 2) := by decide +kernel
theorem dX11_arguments_49 : decode cX11_arguments 49 = .ok (.iload 4, 2) := by decide +kernel
theorem dX11_arguments_51 : decode cX11_arguments 51 = .ok (.if_icmp .ge 58, 3) := by decide +kernel
theorem dX11_arguments_54 : decode cX11_arguments 54 = .ok (.aload_n 0, 1) := by decide +kernel
theorem dX11_arguments_55 : decode cX11_arguments 55 = .ok (.getfield 706, 3) := by decide +kernel
theorem dX11_arguments_58 : decode cX11_arguments 58 = .ok (.ifCond .eq 51, 3) := by decide +kernel
theorem dX11_arguments_61 : decode cX11_arguments 61 = .ok (.aload_n 0, 1) := by decide +kernel
theorem dX11_arguments_62 : decode cX11_arguments 62 = .ok (.getfield 191, 3) := by decide +kernel
theorem dX11_arguments_65 : decode cX11_arguments 65 = .ok (.bipush 8, 2) := by decide +kernel
theorem dX11_arguments_67 : decode cX11_arguments 67 = .ok (.iload_n 3, 1) := by decide +kernel
theorem dX11_arguments_68 : decode cX11_arguments 68 = .ok (.imul, 1) := by decide +kernel
theorem dX11_arguments_69 : decode cX11_arguments 69 = .ok (.iload 6, 2) := by decide +kernel
theorem dX11_arguments_71 : decode cX11_arguments 71 = .ok (.iadd, 1) := by decide +kernel
theorem dX11_arguments_72 : decode cX11_arguments 72 = .ok (.baload, 1) := by decide +kernel
theorem dX11_arguments_73 : decode cX11_arguments 73 = .ok (.ifCond .eq 36, 3) := by decide +kernel
theorem dX11_arguments_76 : decode cX11_arguments 76 = .ok (.aload_n 0, 1) := by decide +kernel
theorem dX11_arguments_77 : decode cX11_arguments 77 = .ok (.dup, 1) := by decide +kernel
theorem dX11_arguments_78 : decode cX11_arguments 78 = .ok (.getfield 709, 3) := by decide +kernel
theorem dX11_arguments_81 : decode cX11_arguments 81 = .ok (.iconst 1, 1) := by decide +kernel
theorem dX11_arguments_82 : decode cX11_arguments 82 = .ok (.iadd, 1) := by decide +kernel
theorem dX11_arguments_83 : decode cX11_arguments 83 = .ok (.putfield 709, 3) := by decide +kernel
theorem dX11_arguments_86 : decode cX11_arguments 86 = .ok (.aload_n 0, 1) := by decide +kernel
theorem dX11_arguments_87 : decode cX11_arguments 87 = .ok (.bipush 6, 2) := by decide +kernel
theorem dX11_arguments_89 : decode cX11_arguments 89 = .ok (.iload_n 1, 1) := by decide +kernel
theorem dX11_arguments_90 : decode cX11_arguments 90 = .ok (.iload 6, 2) := by decide +kernel
theorem dX11_arguments_92 : decode cX11_arguments 92 = .ok (.invokevirtual 685, 3) := by decide +kernel
theorem dX11_arguments_95 : decode cX11_arguments 95 = .ok (.aload_n 0, 1) := by decide +kernel
theorem dX11_arguments_96 : decode cX11_arguments 96 = .ok (.aload_n 0, 1) := by decide +kernel
theorem dX11_arguments_97 : decode cX11_arguments 97 = .ok (.iload_n 1, 1) := by decide +kernel
theorem dX11_arguments_98 : decode cX11_arguments 98 = .ok (.iconst 1, 1) := by decide +kernel
theorem dX11_arguments_99 : decode cX11_arguments 99 = .ok (.iload 6, 2) := by decide +kernel
theorem dX11_arguments_101 : decode cX11_arguments 101 = .ok (.iadd, 1) := by decide +kernel
theorem dX11_arguments_102 : decode cX11_arguments 102 = .ok (.invokevirtual 545, 3) := by decide +kernel
theorem dX11_arguments_105 : decode cX11_arguments 105 = .ok (.invokevirtual 697, 3) := by decide +kernel
theorem dX11_arguments_108 : decode cX11_arguments 108 = .ok (.return_, 1) := by decide +kernel
theorem dX11_arguments_109 : decode cX11_arguments 109 = .ok (.aload_n 0, 1) := by decide +kernel
theorem dX11_arguments_110 : decode cX11_arguments 110 = .ok (.aload_n 0, 1) := by decide +kernel
theorem dX11_arguments_111 : decode cX11_arguments 111 = .ok (.aload_n 0, 1) := by decide +kernel
theorem dX11_arguments_112 : decode cX11_arguments 112 = .ok (.iload_n 1, 1) := by decide +kernel
theorem dX11_arguments_113 : decode cX11_arguments 113 = .ok (.iconst 1, 1) := by decide +kernel
theorem dX11_arguments_114 : decode cX11_arguments 114 = .ok (.iload 6, 2) := by decide +kernel
theorem dX11_arguments_116 : decode cX11_arguments 116 = .ok (.iadd, 1) := by decide +kernel
theorem dX11_arguments_117 : decode cX11_arguments 117 = .ok (.invokevirtual 545, 3) := by decide +kernel
theorem dX11_arguments_120 : decode cX11_arguments 120 = .ok (.invokevirtual 703, 3) := by decide +kernel
theorem dX11_arguments_123 : decode cX11_arguments 123 = .ok (.invokevirtual 721, 3) := by decide +kernel
theorem dX11_arguments_126 : decode cX11_arguments 126 = .ok (.iinc 6 1, 3) := by decide +kernel
theorem dX11_arguments_129 : decode cX11_arguments 129 = .ok (.goto (-96), 3) := by decide +kernel
theorem dX11_arguments_132 : decode cX11_arguments 132 = .ok (.aload_n 0, 1) := by decide +kernel
theorem dX11_arguments_133 : decode cX11_arguments 133 = .ok (.getfield 605, 3) := by decide +kernel
theorem dX11_arguments_136 : decode cX11_arguments 136 = .ok (.ifCond .ne 11, 3) := by decide +kernel
theorem dX11_arguments_139 : decode cX11_arguments 139 = .ok (.aload_n 0, 1) := by decide +kernel
theorem dX11_arguments_140 : decode cX11_arguments 140 = .ok (.iload_n 3, 1) := by decide +kernel
theorem dX11_arguments_141 : decode cX11_arguments 141 = .ok (.iconst (-1), 1) := by decide +kernel
theorem dX11_arguments_142 : decode cX11_arguments 142 = .ok (.iload 5, 2) := by decide +kernel
theorem dX11_arguments_144 : decode cX11_arguments 144 = .ok (.invokevirtual 727, 3) := by decide +kernel
theorem dX11_arguments_147 : decode cX11_arguments 147 = .ok (.return_, 1) := by decide +kernel
theorem mw_X11_arguments : MW yX11_arguments (Cond.code yX11_arguments cX11_arguments 7 (Option.none : Option Jvm.ClassFile.FieldType)) cX11_arguments 7 (Option.none : Option Jvm.ClassFile.FieldType) 2 := ⟨rfl, ⟨(lw_all_tbl q3296), rfl, (lw_all_tbl q173)⟩, rfl, ⟨by decide, by decide⟩, by decide +kernel⟩
abbrev okt_arguments_33 (x : Int × Int × Int × Int × Int) : Prop := R32 x.1 ∧ R32 x.2.1 ∧ R32 x.2.2.1 ∧ R32 x.2.2.2.1 ∧ R32 x.2.2.2.2
abbrev lvt_arguments_33 (Γ : Gm) (x : Int × Int × Int × Int × Int) : List (Nat × Value) := [(0, vA (mg Γ) 21), (1, vI x.1), (3, vI x.2.1), (4, vI x.2.2.1), (5, vI x.2.2.2.1), (6, vI x.2.2.2.2)]
noncomputable def t_arguments_109 {A : Type} (k_76 : Int → Int → Mo TS A) (k_132 : Int → Int → Mo TS A) (l1 : Int) (l3 : Int) (l4 : Int) (l5 : Int) (l6 : Int) : Mo TS ((Int × Int × Int × Int × Int) ⊕ A) :=
  bnd (t_child l1 (w32 (1 + l6))) fun v1 =>
  bnd (t_keep v1) fun v2 =>
  bnd (t_push v2) fun _ =>
  pr (.inl (l1, l3, l4, l5, (w32 (l6 + 1))))
theorem st_arguments_109 {Γ : Gm} {h : CH} {d : Nat} (hT : HT h) (o : Ok Γ "LazyForgeModel" cX11_arguments 7 (Option.none : Option Jvm.ClassFile.FieldType) (d + 5)) {A : Type} {K : A → TS → Prop}  (k_76 : Int → Int → Mo TS A) (k_132 : Int → Int → Mo TS A) (hk_76 : ∀ (l1 : Int) (l6 : Int), R32 l1 → R32 l6 → Sx Γ (fun t => (h, t)) K 76 [(0, vA (mg Γ) 21), (1, vI l1), (6, vI l6)] [] (k_76 l1 l6)) (hk_132 : ∀ (l3 : Int) (l5 : Int), R32 l3 → R32 l5 → Sx Γ (fun t => (h, t)) K 132 [(0, vA (mg Γ) 21), (3, vI l3), (5, vI l5)] [] (k_132 l3 l5)) (l1 : Int) (l3 : Int) (l4 : Int) (l5 : Int) (l6 : Int) (hl1 : R32 l1) (hl3 : R32 l3) (hl4 : R32 l4) (hl5 : R32 l5) (hl6 : R32 l6) : Sx Γ (fun t => (h, t)) (KL Γ (fun t => (h, t)) okt_arguments_33 K 33 (lvt_arguments_33 Γ) []) 109 [(0, vA (mg Γ) 21), (1, vI l1), (3, vI l3), (4, vI l4), (5, vI l5), (6, vI l6)] [] (t_arguments_109 k_76 k_132 l1 l3 l4 l5 l6) := by
  unfold t_arguments_109
  refine s_aload_n o dX11_arguments_109 rfl 0 rfl ?_
  refine s_aload_n o dX11_arguments_110 rfl 0 rfl ?_
  refine s_aload_n o dX11_arguments_111 rfl 0 rfl ?_
  refine s_iload_n o dX11_arguments_112 rfl 1 rfl ?_
  refine s_iconst o dX11_arguments_113 ?_
  refine s_iload o dX11_arguments_114 5 rfl ?_
  refine s_iadd o dX11_arguments_116 ?_
  refine s_cv (d := d + 4) (C := "LazyForgeModel") (As := [vI l1, vI (w32 (1 + l6))]) (st := [vA (mg Γ) 21, vA (mg Γ) 21]) o (st_child (mg Γ) (d + 4) h hT l1 (w32 (1 + l6)) hl1 (w32_R _)) mw_X11_child rfl (Or.inl (lw_all_tbl q3189)) (lw_all_tbl qs115) (lw_all_tbl q3191) (fun t => rc_t o hT t) (wt_A (wt_A wt_0)) rfl dX11_arguments_117 rfl (rs := fun r => [vI r, vA (mg Γ) 21, vA (mg Γ) 21]) (fun _ => rfl) (fun v1 hv1 => ?_)
  refine s_cv (d := d + 4) (C := "LazyForgeModel") (As := [vI v1]) (st := [vA (mg Γ) 21]) o (st_keep (mg Γ) d h hT v1 (hv1 _ rfl)) mw_X11_keep rfl (Or.inl (lw_all_tbl q3297)) (lw_all_tbl qs138) (lw_all_tbl q3299) (fun t => rc_t o hT t) (wt_A wt_0) rfl dX11_arguments_120 rfl (rs := fun r => [vJ r, vA (mg Γ) 21]) (fun _ => rfl) (fun v2 hv2 => ?_)
  refine s_cv (d := d + 4) (C := "LazyForgeModel") (As := [vJ v2]) (st := []) o (st_push (mg Γ) (d + 4) h hT v2 (hv2 _ rfl)) mw_X11_push rfl (Or.inl (lw_all_tbl q3281)) (lw_all_tbl qs134) (lw_all_tbl q3283) (fun t => rc_t o hT t) wt_0 rfl dX11_arguments_123 rfl (rs := fun _ => []) (fun _ => rfl) (fun _ _ => ?_)
  refine r_iinc (j := 5) o dX11_arguments_126 rfl rfl [(0, vA (mg Γ) 21), (1, vI l1), (3, vI l3), (4, vI l4), (5, vI l5)] [0, 1, 2, 3, 4] rfl ⟨(Nat.ne_of_beq_eq_false rfl), (fun _ => (vA_cat (mg Γ) 21)), ⟨(Nat.ne_of_beq_eq_false rfl), (fun _ => rfl), ⟨(Nat.ne_of_beq_eq_false rfl), (fun _ => rfl), ⟨(Nat.ne_of_beq_eq_false rfl), (fun _ => rfl), ⟨(Nat.ne_of_beq_eq_false rfl), (fun _ => rfl), trivial⟩⟩⟩⟩⟩ ?_
  refine s_goto (tgt := 33) o dX11_arguments_129 (by decide) ?_
  refine r_to [(0, vA (mg Γ) 21), (1, vI l1), (3, vI l3), (4, vI l4), (5, vI l5), (6, vI (w32 (l6 + 1)))] [1, 2, 3, 4, 5, 0] rfl ?_
  exact s_back (⟨hl1, hl3, hl4, hl5, (w32_R _)⟩) rfl
noncomputable def t_arguments_33b {A : Type} (k_76 : Int → Int → Mo TS A) (k_132 : Int → Int → Mo TS A) (l1 : Int) (l3 : Int) (l4 : Int) (l5 : Int) (l6 : Int) : Mo TS ((Int × Int × Int × Int × Int) ⊕ A) :=
  if l5 ≤ l6 then
    lo (k_132 l3 l5)
  else
    bnd (gs 111) fun v1 =>
    if ¬ v1 = 0 then
      lo (k_132 l3 l5)
    else
      if l4 ≤ l6 then
        t_arguments_109 k_76 k_132 l1 l3 l4 l5 l6
      else
        bnd (gs 115) fun v2 =>
        if v2 = 0 then
          t_arguments_109 k_76 k_132 l1 l3 l4 l5 l6
        else
          bnd (rd 91 5120 (w32 ((w32 (8 * l3)) + l6))) fun v3 =>
          if v3 = 0 then
            t_arguments_109 k_76 k_132 l1 l3 l4 l5 l6
          else
            lo (k_76 l1 l6)
theorem st_arguments_33b {Γ : Gm} {h : CH} {d : Nat} (hT : HT h) (o : Ok Γ "LazyForgeModel" cX11_arguments 7 (Option.none : Option Jvm.ClassFile.FieldType) (d + 5)) {A : Type} {K : A → TS → Prop} (k_76 : Int → Int → Mo TS A) (k_132 : Int → Int → Mo TS A) (hk_76 : ∀ (l1 : Int) (l6 : Int), R32 l1 → R32 l6 → Sx Γ (fun t => (h, t)) K 76 [(0, vA (mg Γ) 21), (1, vI l1), (6, vI l6)] [] (k_76 l1 l6)) (hk_132 : ∀ (l3 : Int) (l5 : Int), R32 l3 → R32 l5 → Sx Γ (fun t => (h, t)) K 132 [(0, vA (mg Γ) 21), (3, vI l3), (5, vI l5)] [] (k_132 l3 l5)) (l1 : Int) (l3 : Int) (l4 : Int) (l5 : Int) (l6 : Int) (hl1 : R32 l1) (hl3 : R32 l3) (hl4 : R32 l4) (hl5 : R32 l5) (hl6 : R32 l6) : Sx Γ (fun t => (h, t)) (KL Γ (fun t => (h, t)) okt_arguments_33 K 33 (lvt_arguments_33 Γ) []) 33 [(0, vA (mg Γ) 21), (1, vI l1), (3, vI l3), (4, vI l4), (5, vI l5), (6, vI l6)] [] (t_arguments_33b k_76 k_132 l1 l3 l4 l5 l6) := by
  unfold t_arguments_33b
  refine s_iload o dX11_arguments_33 5 rfl ?_
  refine s_iload o dX11_arguments_35 4 rfl ?_
  refine s_icmp_ge (tgt := 132) o dX11_arguments_37 (by decide) hl6 hl5 ?_ ?_
  · refine r_to [(0, vA (mg Γ) 21), (3, vI l3), (5, vI l5)] [0, 2, 4] rfl ?_
    exact s_lo (hk_132 l3 l5 hl3 hl5)
  · refine s_aload_n o dX11_arguments_40 rfl 0 rfl ?_
    refine r_tgf vI rfl o hT tf_how tj_how (lw_all_tbl q2615) dX11_arguments_41 (fun v1 hv1 => ?_)
    refine s_if_ne (tgt := 132) o dX11_arguments_44 (by decide) hv1 ?_ ?_
    · refine r_to [(0, vA (mg Γ) 21), (3, vI l3), (5, vI l5)] [0, 2, 4] rfl ?_
      exact s_lo (hk_132 l3 l5 hl3 hl5)
    · refine s_iload o dX11_arguments_47 5 rfl ?_
      refine s_iload o dX11_arguments_49 3 rfl ?_
      refine s_icmp_ge (tgt := 109) o dX11_arguments_51 (by decide) hl6 hl4 ?_ ?_
      · exact st_arguments_109 hT o k_76 k_132 hk_76 hk_132 l1 l3 l4 l5 l6 hl1 hl3 hl4 hl5 hl6
      · refine s_aload_n o dX11_arguments_54 rfl 0 rfl ?_
        refine r_tgf vI rfl o hT tf_eager tj_eager (lw_all_tbl q2619) dX11_arguments_55 (fun v2 hv2 => ?_)
        refine s_if_eq (tgt := 109) o dX11_arguments_58 (by decide) (rZ hv2) ?_ ?_
        · exact st_arguments_109 hT o k_76 k_132 hk_76 hk_132 l1 l3 l4 l5 l6 hl1 hl3 hl4 hl5 hl6
        · refine s_aload_n o dX11_arguments_61 rfl 0 rfl ?_
          refine s_tga (x := 80) o hT tf_needed ta_needed (lw_all_tbl q2595) dX11_arguments_62 ?_
          refine s_bipush o dX11_arguments_65 rfl ?_
          refine s_iload_n o dX11_arguments_67 rfl 2 rfl ?_
          refine s_imul o dX11_arguments_68 ?_
          refine s_iload o dX11_arguments_69 5 rfl ?_
          refine s_iadd o dX11_arguments_71 ?_
          refine r_tzald o hT tr_needed (w32_R _) dX11_arguments_72 (fun v3 hv3 => ?_)
          refine s_if_eq (tgt := 109) o dX11_arguments_73 (by decide) (rZ hv3) ?_ ?_
          · exact st_arguments_109 hT o k_76 k_132 hk_76 hk_132 l1 l3 l4 l5 l6 hl1 hl3 hl4 hl5 hl6
          · refine r_to [(0, vA (mg Γ) 21), (1, vI l1), (6, vI l6)] [0, 1, 5] rfl ?_
            exact s_lo (hk_76 l1 l6 hl1 hl6)
noncomputable def t_arguments_33 {A : Type} (k_76 : Int → Int → Mo TS A) (k_132 : Int → Int → Mo TS A) (l1 : Int) (l3 : Int) (l4 : Int) (l5 : Int) (l6 : Int) : Mo TS A := Loop (fun x => t_arguments_33b k_76 k_132 x.1 x.2.1 x.2.2.1 x.2.2.2.1 x.2.2.2.2) (l1, l3, l4, l5, l6)
theorem st_arguments_33 {Γ : Gm} {h : CH} {d : Nat} (hT : HT h) (o : Ok Γ "LazyForgeModel" cX11_arguments 7 (Option.none : Option Jvm.ClassFile.FieldType) (d + 5)) {A : Type} {K : A → TS → Prop} (k_76 : Int → Int → Mo TS A) (k_132 : Int → Int → Mo TS A) (hk_76 : ∀ (l1 : Int) (l6 : Int), R32 l1 → R32 l6 → Sx Γ (fun t => (h, t)) K 76 [(0, vA (mg Γ) 21), (1, vI l1), (6, vI l6)] [] (k_76 l1 l6)) (hk_132 : ∀ (l3 : Int) (l5 : Int), R32 l3 → R32 l5 → Sx Γ (fun t => (h, t)) K 132 [(0, vA (mg Γ) 21), (3, vI l3), (5, vI l5)] [] (k_132 l3 l5)) (l1 : Int) (l3 : Int) (l4 : Int) (l5 : Int) (l6 : Int) (hl1 : R32 l1) (hl3 : R32 l3) (hl4 : R32 l4) (hl5 : R32 l5) (hl6 : R32 l6) : Sx Γ (fun t => (h, t)) K 33 [(0, vA (mg Γ) 21), (1, vI l1), (3, vI l3), (4, vI l4), (5, vI l5), (6, vI l6)] [] (t_arguments_33 k_76 k_132 l1 l3 l4 l5 l6) :=
  s_loop okt_arguments_33 (lvt_arguments_33 Γ) (fun x hx => st_arguments_33b hT o k_76 k_132 hk_76 hk_132 x.1 x.2.1 x.2.2.1 x.2.2.2.1 x.2.2.2.2 hx.1 hx.2.1 hx.2.2.1 hx.2.2.2.1 hx.2.2.2.2) (x := (l1, l3, l4, l5, l6)) ⟨hl1, hl3, hl4, hl5, hl6⟩
noncomputable def t_arguments (l1 : Int) (l2 : Int) : Mo TS Int :=
  bnd (t_child l1 0) fun v1 =>
  bnd (rd 65 7000 v1) fun v2 =>
  bnd (rd 82 640 v2) fun v3 =>
  bnd (rd 67 7000 l1) fun v4 =>
  t_arguments_33
    (fun v5 v6 => bnd (gs 109) fun v7 =>
  bnd (ss 109 (w32 (v7 + 1))) fun _ =>
  bnd (t_waits 6 v5 v6) fun _ =>
  bnd (t_child v5 (w32 (1 + v6))) fun v8 =>
  bnd (t_evaluate v8) fun _ =>
  pr 0)
    (fun v9 v10 => bnd (gs 111) fun v11 =>
  if ¬ v11 = 0 then
    pr 0
  else
    bnd (t_call v9 (-1) v10) fun _ =>
    pr 0) l1 v2 v3 (w32 (v4 - 1)) l2
theorem st_arguments (g : gC) (d : Nat) (h : CH) (hT : HT h) (l1 : Int) (l2 : Int) (hl1 : R32 l1) (hl2 : R32 l2) : SF g yX11_arguments (Cond.code yX11_arguments cX11_arguments 7 (Option.none : Option Jvm.ClassFile.FieldType)) (Option.none : Option Jvm.ClassFile.FieldType) (d + 5) [vA g 21, vI l1, vI l2] (fun t => (h, t)) (t_arguments l1 l2) := by
  refine SF.of (lv := [(0, vA g 21), (1, vI l1), (2, vI l2)]) (by decide) (wt_A (wt_I (wt_I wt_0))) rfl (by simp only [la_A, la_I, la_J, la_0]) (fun Γ hg hnm o => ?_)
  subst hg
  have o : Ok Γ "LazyForgeModel" cX11_arguments 7 (Option.none : Option Jvm.ClassFile.FieldType) (d + 5) := o
  unfold t_arguments
  refine s_aload_n o dX11_arguments_0 rfl 0 rfl ?_
  refine s_tga (x := 59) o hT tf_liftValues ta_liftValues (lw_all_tbl q2569) dX11_arguments_1 ?_
  refine s_aload_n o dX11_arguments_4 rfl 0 rfl ?_
  refine s_iload_n o dX11_arguments_5 rfl 1 rfl ?_
  refine s_iconst o dX11_arguments_6 ?_
  refine s_cv (d := d + 4) (C := "LazyForgeModel") (As := [vI l1, vI 0]) (st := [vA (mg Γ) 59]) o (st_child (mg Γ) (d + 4) h hT l1 0 hl1 (r32 rfl)) mw_X11_child rfl (Or.inl (lw_all_tbl q3189)) (lw_all_tbl qs115) (lw_all_tbl q3191) (fun t => rc_t o hT t) (wt_A wt_0) rfl dX11_arguments_7 rfl (rs := fun r => [vI r, vA (mg Γ) 59]) (fun _ => rfl) (fun v1 hv1 => ?_)
  refine r_tiald o hT tr_liftValues (hv1 _ rfl) dX11_arguments_10 (fun v2 hv2 => ?_)
  refine r_istore_n o dX11_arguments_11 rfl rfl ⟨(Nat.ne_of_beq_eq_false rfl), (fun _ => (vA_cat (mg Γ) 21)), ⟨(Nat.ne_of_beq_eq_false rfl), (fun _ => rfl), ⟨(Nat.ne_of_beq_eq_false rfl), (fun _ => rfl), trivial⟩⟩⟩ ?_
  refine s_aload_n o dX11_arguments_12 rfl 1 rfl ?_
  refine s_tga (x := 75) o hT tf_parameterCounts ta_parameterCounts (lw_all_tbl q2586) dX11_arguments_13 ?_
  refine s_iload_n o dX11_arguments_16 rfl 0 rfl ?_
  refine r_tiald o hT tr_parameterCounts hv2 dX11_arguments_17 (fun v3 hv3 => ?_)
  refine r_istore o dX11_arguments_18 rfl ⟨(Nat.ne_of_beq_eq_false rfl), (fun _ => rfl), ⟨(Nat.ne_of_beq_eq_false rfl), (fun _ => (vA_cat (mg Γ) 21)), ⟨(Nat.ne_of_beq_eq_false rfl), (fun _ => rfl), ⟨(Nat.ne_of_beq_eq_false rfl), (fun _ => rfl), trivial⟩⟩⟩⟩ ?_
  refine s_aload_n o dX11_arguments_20 rfl 2 rfl ?_
  refine s_tga (x := 61) o hT tf_liftCounts ta_liftCounts (lw_all_tbl q2571) dX11_arguments_21 ?_
  refine s_iload_n o dX11_arguments_24 rfl 3 rfl ?_
  refine r_tiald o hT tr_liftCounts hl1 dX11_arguments_25 (fun v4 hv4 => ?_)
  refine s_iconst o dX11_arguments_26 ?_
  refine s_isub o dX11_arguments_27 ?_
  refine r_istore o dX11_arguments_28 rfl ⟨(Nat.ne_of_beq_eq_false rfl), (fun _ => rfl), ⟨(Nat.ne_of_beq_eq_false rfl), (fun _ => rfl), ⟨(Nat.ne_of_beq_eq_false rfl), (fun _ => (vA_cat (mg Γ) 21)), ⟨(Nat.ne_of_beq_eq_false rfl), (fun _ => rfl), ⟨(Nat.ne_of_beq_eq_false rfl), (fun _ => rfl), trivial⟩⟩⟩⟩⟩ ?_
  refine s_iload_n o dX11_arguments_30 rfl 5 rfl ?_
  refine r_istore o dX11_arguments_31 rfl ⟨(Nat.ne_of_beq_eq_false rfl), (fun _ => rfl), ⟨(Nat.ne_of_beq_eq_false rfl), (fun _ => rfl), ⟨(Nat.ne_of_beq_eq_false rfl), (fun _ => rfl), ⟨(Nat.ne_of_beq_eq_false rfl), (fun _ => (vA_cat (mg Γ) 21)), ⟨(Nat.ne_of_beq_eq_false rfl), (fun _ => rfl), ⟨(Nat.ne_of_beq_eq_false rfl), (fun _ => rfl), trivial⟩⟩⟩⟩⟩⟩ ?_
  refine r_to [(0, vA (mg Γ) 21), (1, vI l1), (3, vI v2), (4, vI v3), (5, vI (w32 (v4 - 1))), (6, vI l2)] [4, 5, 3, 2, 1, 0] rfl ?_
  refine st_arguments_33 hT o _ _ ?_ ?_ l1 v2 v3 (w32 (v4 - 1)) l2 hl1 hv2 hv3 (w32_R _) hl2
  · intro v5 v6 hv5 hv6
    refine s_aload_n o dX11_arguments_76 rfl 0 rfl ?_
    refine s_dup o dX11_arguments_77 (vA_cat (mg Γ) 21) ?_
    refine r_tgf vI rfl o hT tf_atOnce tj_atOnce (lw_all_tbl q2613) dX11_arguments_78 (fun v7 hv7 => ?_)
    refine s_iconst o dX11_arguments_81 ?_
    refine s_iadd o dX11_arguments_82 ?_
    refine r_tpf vI rfl o hT tf_atOnce tj_atOnce (lw_all_tbl q2613) dX11_arguments_83 (w32_R _) ty_int ?_
    refine s_aload_n o dX11_arguments_86 rfl 0 rfl ?_
    refine s_bipush o dX11_arguments_87 rfl ?_
    refine s_iload_n o dX11_arguments_89 rfl 1 rfl ?_
    refine s_iload o dX11_arguments_90 2 rfl ?_
    refine s_cv (d := d + 4) (C := "LazyForgeModel") (As := [vI 6, vI v5, vI v6]) (st := []) o (st_waits (mg Γ) (d + 4) h hT 6 v5 v6 (r32 rfl) hv5 hv6) mw_X11_waits rfl (Or.inl (lw_all_tbl q3264)) (lw_all_tbl qs130) (lw_all_tbl q3266) (fun t => rc_t o hT t) wt_0 rfl dX11_arguments_92 rfl (rs := fun _ => []) (fun _ => rfl) (fun _ _ => ?_)
    refine s_aload_n o dX11_arguments_95 rfl 0 rfl ?_
    refine s_aload_n o dX11_arguments_96 rfl 0 rfl ?_
    refine s_iload_n o dX11_arguments_97 rfl 1 rfl ?_
    refine s_iconst o dX11_arguments_98 ?_
    refine s_iload o dX11_arguments_99 2 rfl ?_
    refine s_iadd o dX11_arguments_101 ?_
    refine s_cv (d := d + 4) (C := "LazyForgeModel") (As := [vI v5, vI (w32 (1 + v6))]) (st := [vA (mg Γ) 21]) o (st_child (mg Γ) (d + 4) h hT v5 (w32 (1 + v6)) hv5 (w32_R _)) mw_X11_child rfl (Or.inl (lw_all_tbl q3189)) (lw_all_tbl qs115) (lw_all_tbl q3191) (fun t => rc_t o hT t) (wt_A wt_0) rfl dX11_arguments_102 rfl (rs := fun r => [vI r, vA (mg Γ) 21]) (fun _ => rfl) (fun v8 hv8 => ?_)
    refine s_cv (d := d + 4) (C := "LazyForgeModel") (As := [vI v8]) (st := []) o (st_evaluate (mg Γ) (d + 4) h hT v8 (hv8 _ rfl)) mw_X11_evaluate rfl (Or.inl (lw_all_tbl q3272)) (lw_all_tbl qs132) (lw_all_tbl q3274) (fun t => rc_t o hT t) wt_0 rfl dX11_arguments_105 rfl (rs := fun _ => []) (fun _ => rfl) (fun _ _ => ?_)
    exact s_vret o rfl dX11_arguments_108 (fun _ hh => hh)
  · intro v9 v10 hv9 hv10
    refine s_aload_n o dX11_arguments_132 rfl 0 rfl ?_
    refine r_tgf vI rfl o hT tf_how tj_how (lw_all_tbl q2615) dX11_arguments_133 (fun v11 hv11 => ?_)
    refine s_if_ne (tgt := 147) o dX11_arguments_136 (by decide) hv11 ?_ ?_
    · exact s_vret o rfl dX11_arguments_147 (fun _ hh => hh)
    · refine s_aload_n o dX11_arguments_139 rfl 0 rfl ?_
      refine s_iload_n o dX11_arguments_140 rfl 1 rfl ?_
      refine s_iconst o dX11_arguments_141 ?_
      refine s_iload o dX11_arguments_142 2 rfl ?_
      refine s_cv (d := d + 4) (C := "LazyForgeModel") (As := [vI v9, vI (-1), vI v10]) (st := []) o (st_call (mg Γ) (d + 2) h hT v9 (-1) v10 hv9 (r32 rfl) hv10) mw_X11_call rfl (Or.inl (lw_all_tbl q3324)) (lw_all_tbl qs144) (lw_all_tbl q3326) (fun t => rc_t o hT t) wt_0 rfl dX11_arguments_144 rfl (rs := fun _ => []) (fun _ => rfl) (fun _ _ => ?_)
      exact s_vret o rfl dX11_arguments_147 (fun _ hh => hh)
theorem dX11_writeE_0 : decode cX11_writeE 0 = .ok (.iconst 1, 1) := by decide +kernel
theorem dX11_writeE_1 : decode cX11_writeE 1 = .ok (.istore_n 2, 1) := by decide +kernel
theorem dX11_writeE_2 : decode cX11_writeE 2 = .ok (.aload_n 0, 1) := by decide +kernel
theorem dX11_writeE_3 : decode cX11_writeE 3 = .ok (.getfield 110, 3) := by decide +kernel
theorem dX11_writeE_6 : decode cX11_writeE 6 = .ok (.iconst 0, 1) := by decide +kernel
theorem dX11_writeE_7 : decode cX11_writeE 7 = .ok (.iload_n 1, 1) := by decide +kernel
theorem dX11_writeE_8 : decode cX11_writeE 8 = .ok (.iastore, 1) := by decide +kernel
theorem dX11_writeE_9 : decode cX11_writeE 9 = .ok (.aload_n 0, 1) := by decide +kernel
theorem dX11_writeE_10 : decode cX11_writeE 10 = .ok (.getfield 113, 3) := by decide +kernel
theorem dX11_writeE_13 : decode cX11_writeE 13 = .ok (.iconst 0, 1) := by decide +kernel
theorem dX11_writeE_14 : decode cX11_writeE 14 = .ok (.iconst 0, 1) := by decide +kernel
theorem dX11_writeE_15 : decode cX11_writeE 15 = .ok (.iastore, 1) := by decide +kernel
theorem dX11_writeE_16 : decode cX11_writeE 16 = .ok (.iload_n 2, 1) := by decide +kernel
theorem dX11_writeE_17 : decode cX11_writeE 17 = .ok (.ifCond .le 104, 3) := by decide +kernel
theorem dX11_writeE_20 : decode cX11_writeE 20 = .ok (.aload_n 0, 1) := by decide +kernel
theorem dX11_writeE_21 : decode cX11_writeE 21 = .ok (.getfield 110, 3) := by decide +kernel
theorem dX11_writeE_24 : decode cX11_writeE 24 = .ok (.iload_n 2, 1) := by decide +kernel
theorem dX11_writeE_25 : decode cX11_writeE 25 = .ok (.iconst 1, 1) := by decide +kernel
theorem dX11_writeE_26 : decode cX11_writeE 26 = .ok (.isub, 1) := by decide +kernel
theorem dX11_writeE_27 : decode cX11_writeE 27 = .ok (.iaload, 1) := by decide +kernel
theorem dX11_writeE_28 : decode cX11_writeE 28 = .ok (.istore_n 3, 1) := by decide +kernel
theorem dX11_writeE_29 : decode cX11_writeE 29 = .ok (.aload_n 0, 1) := by decide +kernel
theorem dX11_writeE_30 : decode cX11_writeE 30 = .ok (.getfield 113, 3) := by decide +kernel
theorem dX11_writeE_33 : decode cX11_writeE 33 = .ok (.iload_n 2, 1) := by decide +kernel
theorem dX11_writeE_34 : decode cX11_writeE 34 = .ok (.iconst 1, 1) := by decide +kernel
theorem dX11_writeE_35 : decode cX11_writeE 35 = .ok (.isub, 1) := by decide +kernel
theorem dX11_writeE_36 : decode cX11_writeE 36 = .ok (.iaload, 1) := by decide +kernel
theorem dX11_writeE_37 : decode cX11_writeE 37 = .ok (.istore 4, 2) := by decide +kernel
theorem dX11_writeE_39 : decode cX11_writeE 39 = .ok (.aload_n 0, 1) := by decide +kernel
theorem dX11_writeE_40 : decode cX11_writeE 40 = .ok (.getfield 128, 3) := by decide +kernel
theorem dX11_writeE_43 : decode cX11_writeE 43 = .ok (.iload_n 3, 1) := by decide +kernel
theorem dX11_writeE_44 : decode cX11_writeE 44 = .ok (.iaload, 1) := by decide +kernel
theorem dX11_writeE_45 : decode cX11_writeE 45 = .ok (.ifCond .ne 14, 3) := by decide +kernel
theorem dX11_writeE_48 : decode cX11_writeE 48 = .ok (.aload_n 0, 1) := by decide +kernel
theorem dX11_writeE_49 : decode cX11_writeE 49 = .ok (.iload_n 3, 1) := by decide +kernel
theorem dX11_writeE_50 : decode cX11_writeE 50 = .ok (.invokevirtual 804, 3) := by decide +kernel
theorem dX11_writeE_53 : decode cX11_writeE 53 = .ok (.iinc 2 (-1), 3) := by decide +kernel
theorem dX11_writeE_56 : decode cX11_writeE 56 = .ok (.goto 62, 3) := by decide +kernel
theorem dX11_writeE_59 : decode cX11_writeE 59 = .ok (.aload_n 0, 1) := by decide +kernel
theorem dX11_writeE_60 : decode cX11_writeE 60 = .ok (.iload_n 3, 1) := by decide +kernel
theorem dX11_writeE_61 : decode cX11_writeE 61 = .ok (.iload 4, 2) := by decide +kernel
theorem dX11_writeE_63 : decode cX11_writeE 63 = .ok (.invokevirtual 806, 3) := by decide +kernel
theorem dX11_writeE_66 : decode cX11_writeE 66 = .ok (.aload_n 0, 1) := by decide +kernel
theorem dX11_writeE_67 : decode cX11_writeE 67 = .ok (.getfield 113, 3) := by decide +kernel
theorem dX11_writeE_70 : decode cX11_writeE 70 = .ok (.iload_n 2, 1) := by decide +kernel
theorem dX11_writeE_71 : decode cX11_writeE 71 = .ok (.iconst 1, 1) := by decide +kernel
theorem dX11_writeE_72 : decode cX11_writeE 72 = .ok (.isub, 1) := by decide +kernel
theorem dX11_writeE_73 : decode cX11_writeE 73 = .ok (.dup2, 1) := by decide +kernel
theorem dX11_writeE_74 : decode cX11_writeE 74 = .ok (.iaload, 1) := by decide +kernel
theorem dX11_writeE_75 : decode cX11_writeE 75 = .ok (.iconst 1, 1) := by decide +kernel
theorem dX11_writeE_76 : decode cX11_writeE 76 = .ok (.iadd, 1) := by decide +kernel
theorem dX11_writeE_77 : decode cX11_writeE 77 = .ok (.iastore, 1) := by decide +kernel
theorem dX11_writeE_78 : decode cX11_writeE 78 = .ok (.iload 4, 2) := by decide +kernel
theorem dX11_writeE_80 : decode cX11_writeE 80 = .ok (.aload_n 0, 1) := by decide +kernel
theorem dX11_writeE_81 : decode cX11_writeE 81 = .ok (.getfield 128, 3) := by decide +kernel
theorem dX11_writeE_84 : decode cX11_writeE 84 = .ok (.iload_n 3, 1) := by decide +kernel
theorem dX11_writeE_85 : decode cX11_writeE 85 = .ok (.iaload, 1) := by decide +kernel
theorem dX11_writeE_86 : decode cX11_writeE 86 = .ok (.if_icmp .ge 29, 3) := by decide +kernel
theorem dX11_writeE_89 : decode cX11_writeE 89 = .ok (.aload_n 0, 1) := by decide +kernel
theorem dX11_writeE_90 : decode cX11_writeE 90 = .ok (.getfield 110, 3) := by decide +kernel
theorem dX11_writeE_93 : decode cX11_writeE 93 = .ok (.iload_n 2, 1) := by decide +kernel
theorem dX11_writeE_94 : decode cX11_writeE 94 = .ok (.aload_n 0, 1) := by decide +kernel
theorem dX11_writeE_95 : decode cX11_writeE 95 = .ok (.iload_n 3, 1) := by decide +kernel
theorem dX11_writeE_96 : decode cX11_writeE 96 = .ok (.iload 4, 2) := by decide +kernel
theorem dX11_writeE_98 : decode cX11_writeE 98 = .ok (.invokevirtual 545, 3) := by decide +kernel
theorem dX11_writeE_101 : decode cX11_writeE 101 = .ok (.iastore, 1) := by decide +kernel
theorem dX11_writeE_102 : decode cX11_writeE 102 = .ok (.aload_n 0, 1) := by decide +kernel
theorem dX11_writeE_103 : decode cX11_writeE 103 = .ok (.getfield 113, 3) := by decide +kernel
theorem dX11_writeE_106 : decode cX11_writeE 106 = .ok (.iload_n 2, 1) := by decide +kernel
theorem dX11_writeE_107 : decode cX11_writeE 107 = .ok (.iconst 0, 1) := by decide +kernel
theorem dX11_writeE_108 : decode cX11_writeE 108 = .ok (.iastore, 1) := by decide +kernel
theorem dX11_writeE_109 : decode cX11_writeE 109 = .ok (.iinc 2 1, 3) := by decide +kernel
theorem dX11_writeE_112 : decode cX11_writeE 112 = .ok (.goto 6, 3) := by decide +kernel
theorem dX11_writeE_115 : decode cX11_writeE 115 = .ok (.iinc 2 (-1), 3) := by decide +kernel
theorem dX11_writeE_118 : decode cX11_writeE 118 = .ok (.goto (-102), 3) := by decide +kernel
theorem dX11_writeE_121 : decode cX11_writeE 121 = .ok (.return_, 1) := by decide +kernel
theorem mw_X11_writeE : MW yX11_writeE (Cond.code yX11_writeE cX11_writeE 5 (Option.none : Option Jvm.ClassFile.FieldType)) cX11_writeE 5 (Option.none : Option Jvm.ClassFile.FieldType) 1 := ⟨rfl, ⟨(lw_all_tbl q3395), rfl, (lw_all_tbl q173)⟩, rfl, ⟨by decide, by decide⟩, by decide +kernel⟩
abbrev okt_writeE_16 (x : Int) : Prop := R32 x
abbrev lvt_writeE_16 (Γ : Gm) (x : Int) : List (Nat × Value) := [(0, vA (mg Γ) 21), (2, vI x)]
noncomputable def t_writeE_118 {A : Type} (k_121 : Mo TS A) (l2 : Int) : Mo TS ((Int) ⊕ A) :=
  pr (.inl l2)
theorem st_writeE_118 {Γ : Gm} {h : CH} {d : Nat} (hT : HT h) (o : Ok Γ "LazyForgeModel" cX11_writeE 5 (Option.none : Option Jvm.ClassFile.FieldType) (d + 5)) {A : Type} {K : A → TS → Prop}  (k_121 : Mo TS A) (hk_121 : Sx Γ (fun t => (h, t)) K 121 [] [] (k_121)) (l2 : Int) (hl2 : R32 l2) : Sx Γ (fun t => (h, t)) (KL Γ (fun t => (h, t)) okt_writeE_16 K 16 (lvt_writeE_16 Γ) []) 118 [(0, vA (mg Γ) 21), (2, vI l2)] [] (t_writeE_118 k_121 l2) := by
  unfold t_writeE_118
  refine s_goto (tgt := 16) o dX11_writeE_118 (by decide) ?_
  exact s_back hl2 rfl
noncomputable def t_writeE_16b {A : Type} (k_121 : Mo TS A) (l2 : Int) : Mo TS ((Int) ⊕ A) :=
  if l2 ≤ 0 then
    lo k_121
  else
    bnd (rd 60 3200 (w32 (l2 - 1))) fun v1 =>
    bnd (rd 61 3200 (w32 (l2 - 1))) fun v2 =>
    bnd (rd 67 7000 v1) fun v3 =>
    if ¬ v3 = 0 then
      bnd (t_around v1 v2) fun _ =>
      bnd (rd 61 3200 (w32 (l2 - 1))) fun v4 =>
      bnd (wr 61 3200 (w32 (l2 - 1)) (w32 (v4 + 1))) fun _ =>
      bnd (rd 67 7000 v1) fun v5 =>
      if v5 ≤ v2 then
        t_writeE_118 k_121 (w32 (l2 + (-1)))
      else
        bnd (t_child v1 v2) fun v6 =>
        bnd (wr 60 3200 l2 v6) fun _ =>
        bnd (wr 61 3200 l2 0) fun _ =>
        t_writeE_118 k_121 (w32 (l2 + 1))
    else
      bnd (t_atom_2 v1) fun _ =>
      t_writeE_118 k_121 (w32 (l2 + (-1)))
theorem st_writeE_16b {Γ : Gm} {h : CH} {d : Nat} (hT : HT h) (o : Ok Γ "LazyForgeModel" cX11_writeE 5 (Option.none : Option Jvm.ClassFile.FieldType) (d + 5)) {A : Type} {K : A → TS → Prop} (k_121 : Mo TS A) (hk_121 : Sx Γ (fun t => (h, t)) K 121 [] [] (k_121)) (l2 : Int) (hl2 : R32 l2) : Sx Γ (fun t => (h, t)) (KL Γ (fun t => (h, t)) okt_writeE_16 K 16 (lvt_writeE_16 Γ) []) 16 [(0, vA (mg Γ) 21), (2, vI l2)] [] (t_writeE_16b k_121 l2) := by
  unfold t_writeE_16b
  refine s_iload_n o dX11_writeE_16 rfl 1 rfl ?_
  refine s_if_le (tgt := 121) o dX11_writeE_17 (by decide) hl2 ?_ ?_
  · refine r_to [] [] rfl ?_
    exact s_lo hk_121
  · refine s_aload_n o dX11_writeE_20 rfl 0 rfl ?_
    refine s_tga (x := 55) o hT tf_walk ta_walk (lw_all_tbl q2564) dX11_writeE_21 ?_
    refine s_iload_n o dX11_writeE_24 rfl 1 rfl ?_
    refine s_iconst o dX11_writeE_25 ?_
    refine s_isub o dX11_writeE_26 ?_
    refine r_tiald o hT tr_walk (w32_R _) dX11_writeE_27 (fun v1 hv1 => ?_)
    refine r_istore_n o dX11_writeE_28 rfl rfl ⟨(Nat.ne_of_beq_eq_false rfl), (fun _ => (vA_cat (mg Γ) 21)), ⟨(Nat.ne_of_beq_eq_false rfl), (fun _ => rfl), trivial⟩⟩ ?_
    refine s_aload_n o dX11_writeE_29 rfl 1 rfl ?_
    refine s_tga (x := 56) o hT tf_walkStages ta_walkStages (lw_all_tbl q2565) dX11_writeE_30 ?_
    refine s_iload_n o dX11_writeE_33 rfl 2 rfl ?_
    refine s_iconst o dX11_writeE_34 ?_
    refine s_isub o dX11_writeE_35 ?_
    refine r_tiald o hT tr_walkStages (w32_R _) dX11_writeE_36 (fun v2 hv2 => ?_)
    refine r_istore o dX11_writeE_37 rfl ⟨(Nat.ne_of_beq_eq_false rfl), (fun _ => rfl), ⟨(Nat.ne_of_beq_eq_false rfl), (fun _ => (vA_cat (mg Γ) 21)), ⟨(Nat.ne_of_beq_eq_false rfl), (fun _ => rfl), trivial⟩⟩⟩ ?_
    refine s_aload_n o dX11_writeE_39 rfl 2 rfl ?_
    refine s_tga (x := 61) o hT tf_liftCounts ta_liftCounts (lw_all_tbl q2571) dX11_writeE_40 ?_
    refine s_iload_n o dX11_writeE_43 rfl 1 rfl ?_
    refine r_tiald o hT tr_liftCounts hv1 dX11_writeE_44 (fun v3 hv3 => ?_)
    refine s_if_ne (tgt := 59) o dX11_writeE_45 (by decide) hv3 ?_ ?_
    · refine s_aload_n o dX11_writeE_59 rfl 2 rfl ?_
      refine s_iload_n o dX11_writeE_60 rfl 1 rfl ?_
      refine s_iload o dX11_writeE_61 0 rfl ?_
      refine s_cv (d := d + 4) (C := "LazyForgeModel") (As := [vI v1, vI v2]) (st := []) o (st_around (mg Γ) d h hT v1 v2 hv1 hv2) mw_X11_around rfl (Or.inl (lw_all_tbl q3400)) (lw_all_tbl qs158) (lw_all_tbl q3402) (fun t => rc_t o hT t) wt_0 rfl dX11_writeE_63 rfl (rs := fun _ => []) (fun _ => rfl) (fun _ _ => ?_)
      refine s_aload_n o dX11_writeE_66 rfl 2 rfl ?_
      refine s_tga (x := 56) o hT tf_walkStages ta_walkStages (lw_all_tbl q2565) dX11_writeE_67 ?_
      refine s_iload_n o dX11_writeE_70 rfl 3 rfl ?_
      refine s_iconst o dX11_writeE_71 ?_
      refine s_isub o dX11_writeE_72 ?_
      refine s_dup2 o dX11_writeE_73 rfl (vA_cat (mg Γ) 56) ?_
      refine r_tiald o hT tr_walkStages (w32_R _) dX11_writeE_74 (fun v4 hv4 => ?_)
      refine s_iconst o dX11_writeE_75 ?_
      refine s_iadd o dX11_writeE_76 ?_
      refine r_tiast o hT tr_walkStages (w32_R _) (w32_R _) dX11_writeE_77 ?_
      refine s_iload o dX11_writeE_78 0 rfl ?_
      refine s_aload_n o dX11_writeE_80 rfl 2 rfl ?_
      refine s_tga (x := 61) o hT tf_liftCounts ta_liftCounts (lw_all_tbl q2571) dX11_writeE_81 ?_
      refine s_iload_n o dX11_writeE_84 rfl 1 rfl ?_
      refine r_tiald o hT tr_liftCounts hv1 dX11_writeE_85 (fun v5 hv5 => ?_)
      refine s_icmp_ge (tgt := 115) o dX11_writeE_86 (by decide) hv2 hv5 ?_ ?_
      · refine r_iinc (j := 3) o dX11_writeE_115 rfl rfl [(4, vI v2), (3, vI v1), (0, vA (mg Γ) 21)] [0, 1, 2] rfl ⟨(Nat.ne_of_beq_eq_false rfl), (fun _ => rfl), ⟨(Nat.ne_of_beq_eq_false rfl), (fun _ => rfl), ⟨(Nat.ne_of_beq_eq_false rfl), (fun _ => (vA_cat (mg Γ) 21)), trivial⟩⟩⟩ ?_
        refine r_to [(0, vA (mg Γ) 21), (2, vI (w32 (l2 + (-1))))] [3, 0] rfl ?_
        exact st_writeE_118 hT o k_121 hk_121 (w32 (l2 + (-1))) (w32_R _)
      · refine s_aload_n o dX11_writeE_89 rfl 2 rfl ?_
        refine s_tga (x := 55) o hT tf_walk ta_walk (lw_all_tbl q2564) dX11_writeE_90 ?_
        refine s_iload_n o dX11_writeE_93 rfl 3 rfl ?_
        refine s_aload_n o dX11_writeE_94 rfl 2 rfl ?_
        refine s_iload_n o dX11_writeE_95 rfl 1 rfl ?_
        refine s_iload o dX11_writeE_96 0 rfl ?_
        refine s_cv (d := d + 4) (C := "LazyForgeModel") (As := [vI v1, vI v2]) (st := [vI l2, vA (mg Γ) 55]) o (st_child (mg Γ) (d + 4) h hT v1 v2 hv1 hv2) mw_X11_child rfl (Or.inl (lw_all_tbl q3189)) (lw_all_tbl qs115) (lw_all_tbl q3191) (fun t => rc_t o hT t) (wt_I (wt_A wt_0)) rfl dX11_writeE_98 rfl (rs := fun r => [vI r, vI l2, vA (mg Γ) 55]) (fun _ => rfl) (fun v6 hv6 => ?_)
        refine r_tiast o hT tr_walk hl2 (hv6 _ rfl) dX11_writeE_101 ?_
        refine s_aload_n o dX11_writeE_102 rfl 2 rfl ?_
        refine s_tga (x := 56) o hT tf_walkStages ta_walkStages (lw_all_tbl q2565) dX11_writeE_103 ?_
        refine s_iload_n o dX11_writeE_106 rfl 3 rfl ?_
        refine s_iconst o dX11_writeE_107 ?_
        refine r_tiast o hT tr_walkStages hl2 (r32 rfl) dX11_writeE_108 ?_
        refine r_iinc (j := 3) o dX11_writeE_109 rfl rfl [(4, vI v2), (3, vI v1), (0, vA (mg Γ) 21)] [0, 1, 2] rfl ⟨(Nat.ne_of_beq_eq_false rfl), (fun _ => rfl), ⟨(Nat.ne_of_beq_eq_false rfl), (fun _ => rfl), ⟨(Nat.ne_of_beq_eq_false rfl), (fun _ => (vA_cat (mg Γ) 21)), trivial⟩⟩⟩ ?_
        refine s_goto (tgt := 118) o dX11_writeE_112 (by decide) ?_
        refine r_to [(0, vA (mg Γ) 21), (2, vI (w32 (l2 + 1)))] [3, 0] rfl ?_
        exact st_writeE_118 hT o k_121 hk_121 (w32 (l2 + 1)) (w32_R _)
    · refine s_aload_n o dX11_writeE_48 rfl 2 rfl ?_
      refine s_iload_n o dX11_writeE_49 rfl 1 rfl ?_
      refine s_cv (d := d + 4) (C := "LazyForgeModel") (As := [vI v1]) (st := []) o (st_atom_2 (mg Γ) (d + 1) h hT v1 hv1) mw_X11_atom_2 rfl (Or.inl (lw_all_tbl q3396)) (lw_all_tbl qs157) (lw_all_tbl q3398) (fun t => rc_t o hT t) wt_0 rfl dX11_writeE_50 rfl (rs := fun _ => []) (fun _ => rfl) (fun _ _ => ?_)
      refine r_iinc (j := 3) o dX11_writeE_53 rfl rfl [(4, vI v2), (3, vI v1), (0, vA (mg Γ) 21)] [0, 1, 2] rfl ⟨(Nat.ne_of_beq_eq_false rfl), (fun _ => rfl), ⟨(Nat.ne_of_beq_eq_false rfl), (fun _ => rfl), ⟨(Nat.ne_of_beq_eq_false rfl), (fun _ => (vA_cat (mg Γ) 21)), trivial⟩⟩⟩ ?_
      refine s_goto (tgt := 118) o dX11_writeE_56 (by decide) ?_
      refine r_to [(0, vA (mg Γ) 21), (2, vI (w32 (l2 + (-1))))] [3, 0] rfl ?_
      exact st_writeE_118 hT o k_121 hk_121 (w32 (l2 + (-1))) (w32_R _)
noncomputable def t_writeE_16 {A : Type} (k_121 : Mo TS A) (l2 : Int) : Mo TS A := Loop (fun x => t_writeE_16b k_121 x) l2
theorem st_writeE_16 {Γ : Gm} {h : CH} {d : Nat} (hT : HT h) (o : Ok Γ "LazyForgeModel" cX11_writeE 5 (Option.none : Option Jvm.ClassFile.FieldType) (d + 5)) {A : Type} {K : A → TS → Prop} (k_121 : Mo TS A) (hk_121 : Sx Γ (fun t => (h, t)) K 121 [] [] (k_121)) (l2 : Int) (hl2 : R32 l2) : Sx Γ (fun t => (h, t)) K 16 [(0, vA (mg Γ) 21), (2, vI l2)] [] (t_writeE_16 k_121 l2) :=
  s_loop okt_writeE_16 (lvt_writeE_16 Γ) (fun x hx => st_writeE_16b hT o k_121 hk_121 x hx) (x := l2) hl2
noncomputable def t_writeE (l1 : Int) : Mo TS Int :=
  bnd (wr 60 3200 0 l1) fun _ =>
  bnd (wr 61 3200 0 0) fun _ =>
  t_writeE_16
    (pr 0) 1
theorem st_writeE (g : gC) (d : Nat) (h : CH) (hT : HT h) (l1 : Int) (hl1 : R32 l1) : SF g yX11_writeE (Cond.code yX11_writeE cX11_writeE 5 (Option.none : Option Jvm.ClassFile.FieldType)) (Option.none : Option Jvm.ClassFile.FieldType) (d + 5) [vA g 21, vI l1] (fun t => (h, t)) (t_writeE l1) := by
  refine SF.of (lv := [(0, vA g 21), (1, vI l1)]) (by decide) (wt_A (wt_I wt_0)) rfl (by simp only [la_A, la_I, la_J, la_0]) (fun Γ hg hnm o => ?_)
  subst hg
  have o : Ok Γ "LazyForgeModel" cX11_writeE 5 (Option.none : Option Jvm.ClassFile.FieldType) (d + 5) := o
  unfold t_writeE
  refine s_iconst o dX11_writeE_0 ?_
  refine r_istore_n o dX11_writeE_1 rfl rfl ⟨(Nat.ne_of_beq_eq_false rfl), (fun _ => (vA_cat (mg Γ) 21)), ⟨(Nat.ne_of_beq_eq_false rfl), (fun _ => rfl), trivial⟩⟩ ?_
  refine s_aload_n o dX11_writeE_2 rfl 1 rfl ?_
  refine s_tga (x := 55) o hT tf_walk ta_walk (lw_all_tbl q2564) dX11_writeE_3 ?_
  refine s_iconst o dX11_writeE_6 ?_
  refine s_iload_n o dX11_writeE_7 rfl 2 rfl ?_
  refine r_tiast o hT tr_walk (r32 rfl) hl1 dX11_writeE_8 ?_
  refine s_aload_n o dX11_writeE_9 rfl 1 rfl ?_
  refine s_tga (x := 56) o hT tf_walkStages ta_walkStages (lw_all_tbl q2565) dX11_writeE_10 ?_
  refine s_iconst o dX11_writeE_13 ?_
  refine s_iconst o dX11_writeE_14 ?_
  refine r_tiast o hT tr_walkStages (r32 rfl) (r32 rfl) dX11_writeE_15 ?_
  refine r_to [(0, vA (mg Γ) 21), (2, vI 1)] [1, 0] rfl ?_
  refine st_writeE_16 hT o _ ?_ 1 (r32 rfl)
  · exact s_vret o rfl dX11_writeE_121 (fun _ hh => hh)
theorem dX11_binding_0 : decode cX11_binding 0 = .ok (.aload_n 0, 1) := by decide +kernel
theorem dX11_binding_1 : decode cX11_binding 1 = .ok (.getfield 311, 3) := by decide +kernel
theorem dX11_binding_4 : decode cX11_binding 4 = .ok (.ifCond .le 4, 3) := by decide +kernel
theorem dX11_binding_7 : decode cX11_binding 7 = .ok (.return_, 1) := by decide +kernel
theorem dX11_binding_8 : decode cX11_binding 8 = .ok (.iconst 0, 1) := by decide +kernel
theorem dX11_binding_9 : decode cX11_binding 9 = .ok (.istore_n 2, 1) := by decide +kernel
theorem dX11_binding_10 : decode cX11_binding 10 = .ok (.aload_n 0, 1) := by decide +kernel
theorem dX11_binding_11 : decode cX11_binding 11 = .ok (.getfield 19, 3) := by decide +kernel
theorem dX11_binding_14 : decode cX11_binding 14 = .ok (.iload_n 1, 1) := by decide +kernel
theorem dX11_binding_15 : decode cX11_binding 15 = .ok (.iaload, 1) := by decide +kernel
theorem dX11_binding_16 : decode cX11_binding 16 = .ok (.istore_n 3, 1) := by decide +kernel
theorem dX11_binding_17 : decode cX11_binding 17 = .ok (.iload_n 3, 1) := by decide +kernel
theorem dX11_binding_18 : decode cX11_binding 18 = .ok (.ifCond .lt 47, 3) := by decide +kernel
theorem dX11_binding_21 : decode cX11_binding 21 = .ok (.iinc 2 1, 3) := by decide +kernel
theorem dX11_binding_24 : decode cX11_binding 24 = .ok (.aload_n 0, 1) := by decide +kernel
theorem dX11_binding_25 : decode cX11_binding 25 = .ok (.getfield 286, 3) := by decide +kernel
theorem dX11_binding_28 : decode cX11_binding 28 = .ok (.iconst 3, 1) := by decide +kernel
theorem dX11_binding_29 : decode cX11_binding 29 = .ok (.if_icmp .ne 26, 3) := by decide +kernel
theorem dX11_binding_32 : decode cX11_binding 32 = .ok (.aload_n 0, 1) := by decide +kernel
theorem dX11_binding_33 : decode cX11_binding 33 = .ok (.getfield 37, 3) := by decide +kernel
theorem dX11_binding_36 : decode cX11_binding 36 = .ok (.iload_n 3, 1) := by decide +kernel
theorem dX11_binding_37 : decode cX11_binding 37 = .ok (.laload, 1) := by decide +kernel
theorem dX11_binding_38 : decode cX11_binding 38 = .ok (.aload_n 0, 1) := by decide +kernel
theorem dX11_binding_39 : decode cX11_binding 39 = .ok (.getfield 278, 3) := by decide +kernel
theorem dX11_binding_42 : decode cX11_binding 42 = .ok (.lcmp, 1) := by decide +kernel
theorem dX11_binding_43 : decode cX11_binding 43 = .ok (.ifCond .ne 12, 3) := by decide +kernel
theorem dX11_binding_46 : decode cX11_binding 46 = .ok (.aload_n 0, 1) := by decide +kernel
theorem dX11_binding_47 : decode cX11_binding 47 = .ok (.iconst 2, 1) := by decide +kernel
theorem dX11_binding_48 : decode cX11_binding 48 = .ok (.aload_n 0, 1) := by decide +kernel
theorem dX11_binding_49 : decode cX11_binding 49 = .ok (.getfield 275, 3) := by decide +kernel
theorem dX11_binding_52 : decode cX11_binding 52 = .ok (.invokevirtual 317, 3) := by decide +kernel
theorem dX11_binding_55 : decode cX11_binding 55 = .ok (.aload_n 0, 1) := by decide +kernel
theorem dX11_binding_56 : decode cX11_binding 56 = .ok (.getfield 25, 3) := by decide +kernel
theorem dX11_binding_59 : decode cX11_binding 59 = .ok (.iload_n 3, 1) := by decide +kernel
theorem dX11_binding_60 : decode cX11_binding 60 = .ok (.iaload, 1) := by decide +kernel
theorem dX11_binding_61 : decode cX11_binding 61 = .ok (.istore_n 3, 1) := by decide +kernel
theorem dX11_binding_62 : decode cX11_binding 62 = .ok (.goto (-45), 3) := by decide +kernel
theorem dX11_binding_65 : decode cX11_binding 65 = .ok (.aload_n 0, 1) := by decide +kernel
theorem dX11_binding_66 : decode cX11_binding 66 = .ok (.getfield 286, 3) := by decide +kernel
theorem dX11_binding_69 : decode cX11_binding 69 = .ok (.iconst 3, 1) := by decide +kernel
theorem dX11_binding_70 : decode cX11_binding 70 = .ok (.if_icmp .ne 17, 3) := by decide +kernel
theorem dX11_binding_73 : decode cX11_binding 73 = .ok (.iload_n 2, 1) := by decide +kernel
theorem dX11_binding_74 : decode cX11_binding 74 = .ok (.iconst 5, 1) := by decide +kernel
theorem dX11_binding_75 : decode cX11_binding 75 = .ok (.if_icmp .ne 12, 3) := by decide +kernel
theorem dX11_binding_78 : decode cX11_binding 78 = .ok (.aload_n 0, 1) := by decide +kernel
theorem dX11_binding_79 : decode cX11_binding 79 = .ok (.iconst 4, 1) := by decide +kernel
theorem dX11_binding_80 : decode cX11_binding 80 = .ok (.aload_n 0, 1) := by decide +kernel
theorem dX11_binding_81 : decode cX11_binding 81 = .ok (.getfield 275, 3) := by decide +kernel
theorem dX11_binding_84 : decode cX11_binding 84 = .ok (.invokevirtual 317, 3) := by decide +kernel
theorem dX11_binding_87 : decode cX11_binding 87 = .ok (.aload_n 0, 1) := by decide +kernel
theorem dX11_binding_88 : decode cX11_binding 88 = .ok (.getfield 311, 3) := by decide +kernel
theorem dX11_binding_91 : decode cX11_binding 91 = .ok (.ifCond .gt 11, 3) := by decide +kernel
theorem dX11_binding_94 : decode cX11_binding 94 = .ok (.aload_n 0, 1) := by decide +kernel
theorem dX11_binding_95 : decode cX11_binding 95 = .ok (.getfield 286, 3) := by decide +kernel
theorem dX11_binding_98 : decode cX11_binding 98 = .ok (.iconst 3, 1) := by decide +kernel
theorem dX11_binding_99 : decode cX11_binding 99 = .ok (.if_icmp .eq 8, 3) := by decide +kernel
theorem dX11_binding_102 : decode cX11_binding 102 = .ok (.aload_n 0, 1) := by decide +kernel
theorem dX11_binding_103 : decode cX11_binding 103 = .ok (.invokevirtual 324, 3) := by decide +kernel
theorem dX11_binding_106 : decode cX11_binding 106 = .ok (.return_, 1) := by decide +kernel
theorem dX11_binding_107 : decode cX11_binding 107 = .ok (.aload_n 0, 1) := by decide +kernel
theorem dX11_binding_108 : decode cX11_binding 108 = .ok (.iconst 1, 1) := by decide +kernel
theorem dX11_binding_109 : decode cX11_binding 109 = .ok (.invokevirtual 369, 3) := by decide +kernel
theorem dX11_binding_112 : decode cX11_binding 112 = .ok (.istore_n 3, 1) := by decide +kernel
theorem dX11_binding_113 : decode cX11_binding 113 = .ok (.aload_n 0, 1) := by decide +kernel
theorem dX11_binding_114 : decode cX11_binding 114 = .ok (.getfield 37, 3) := by decide +kernel
theorem dX11_binding_117 : decode cX11_binding 117 = .ok (.iload_n 3, 1) := by decide +kernel
theorem dX11_binding_118 : decode cX11_binding 118 = .ok (.aload_n 0, 1) := by decide +kernel
theorem dX11_binding_119 : decode cX11_binding 119 = .ok (.getfield 278, 3) := by decide +kernel
theorem dX11_binding_122 : decode cX11_binding 122 = .ok (.lastore, 1) := by decide +kernel
theorem dX11_binding_123 : decode cX11_binding 123 = .ok (.aload_n 0, 1) := by decide +kernel
theorem dX11_binding_124 : decode cX11_binding 124 = .ok (.iload_n 1, 1) := by decide +kernel
theorem dX11_binding_125 : decode cX11_binding 125 = .ok (.iload_n 3, 1) := by decide +kernel
theorem dX11_binding_126 : decode cX11_binding 126 = .ok (.invokevirtual 386, 3) := by decide +kernel
theorem dX11_binding_129 : decode cX11_binding 129 = .ok (.aload_n 0, 1) := by decide +kernel
theorem dX11_binding_130 : decode cX11_binding 130 = .ok (.invokevirtual 321, 3) := by decide +kernel
theorem dX11_binding_133 : decode cX11_binding 133 = .ok (.aload_n 0, 1) := by decide +kernel
theorem dX11_binding_134 : decode cX11_binding 134 = .ok (.iload_n 3, 1) := by decide +kernel
theorem dX11_binding_135 : decode cX11_binding 135 = .ok (.iconst 0, 1) := by decide +kernel
theorem dX11_binding_136 : decode cX11_binding 136 = .ok (.invokevirtual 380, 3) := by decide +kernel
theorem dX11_binding_139 : decode cX11_binding 139 = .ok (.aload_n 0, 1) := by decide +kernel
theorem dX11_binding_140 : decode cX11_binding 140 = .ok (.aload_n 0, 1) := by decide +kernel
theorem dX11_binding_141 : decode cX11_binding 141 = .ok (.bipush 61, 2) := by decide +kernel
theorem dX11_binding_143 : decode cX11_binding 143 = .ok (.invokevirtual 383, 3) := by decide +kernel
theorem dX11_binding_146 : decode cX11_binding 146 = .ok (.invokevirtual 359, 3) := by decide +kernel
theorem dX11_binding_149 : decode cX11_binding 149 = .ok (.aload_n 0, 1) := by decide +kernel
theorem dX11_binding_150 : decode cX11_binding 150 = .ok (.iconst 2, 1) := by decide +kernel
theorem dX11_binding_151 : decode cX11_binding 151 = .ok (.iload_n 3, 1) := by decide +kernel
theorem dX11_binding_152 : decode cX11_binding 152 = .ok (.iconst 0, 1) := by decide +kernel
theorem dX11_binding_153 : decode cX11_binding 153 = .ok (.invokevirtual 372, 3) := by decide +kernel
theorem dX11_binding_156 : decode cX11_binding 156 = .ok (.aload_n 0, 1) := by decide +kernel
theorem dX11_binding_157 : decode cX11_binding 157 = .ok (.iconst 1, 1) := by decide +kernel
theorem dX11_binding_158 : decode cX11_binding 158 = .ok (.putfield 389, 3) := by decide +kernel
theorem dX11_binding_161 : decode cX11_binding 161 = .ok (.aload_n 0, 1) := by decide +kernel
theorem dX11_binding_162 : decode cX11_binding 162 = .ok (.iconst 1, 1) := by decide +kernel
theorem dX11_binding_163 : decode cX11_binding 163 = .ok (.putfield 393, 3) := by decide +kernel
theorem dX11_binding_166 : decode cX11_binding 166 = .ok (.return_, 1) := by decide +kernel
theorem mw_X11_binding : MW yX11_binding (Cond.code yX11_binding cX11_binding 4 (Option.none : Option Jvm.ClassFile.FieldType)) cX11_binding 4 (Option.none : Option Jvm.ClassFile.FieldType) 1 := ⟨rfl, ⟨(lw_all_tbl q3038), rfl, (lw_all_tbl q173)⟩, rfl, ⟨by decide, by decide⟩, by decide +kernel⟩
abbrev okt_binding_17 (x : Int × Int × Int) : Prop := R32 x.1 ∧ R32 x.2.1 ∧ R32 x.2.2
abbrev lvt_binding_17 (Γ : Gm) (x : Int × Int × Int) : List (Nat × Value) := [(0, vA (mg Γ) 21), (1, vI x.1), (2, vI x.2.1), (3, vI x.2.2)]
noncomputable def t_binding_55 {A : Type} (k_65 : Int → Int → Mo TS A) (l1 : Int) (l2 : Int) (l3 : Int) : Mo TS ((Int × Int × Int) ⊕ A) :=
  bnd (rd 16 3200 l3) fun v1 =>
  pr (.inl (l1, l2, v1))
theorem st_binding_55 {Γ : Gm} {h : CH} {d : Nat} (hT : HT h) (o : Ok Γ "LazyForgeModel" cX11_binding 4 (Option.none : Option Jvm.ClassFile.FieldType) (d + 6)) {A : Type} {K : A → TS → Prop}  (k_65 : Int → Int → Mo TS A) (hk_65 : ∀ (l1 : Int) (l2 : Int), R32 l1 → R32 l2 → Sx Γ (fun t => (h, t)) K 65 [(0, vA (mg Γ) 21), (1, vI l1), (2, vI l2)] [] (k_65 l1 l2)) (l1 : Int) (l2 : Int) (l3 : Int) (hl1 : R32 l1) (hl2 : R32 l2) (hl3 : R32 l3) : Sx Γ (fun t => (h, t)) (KL Γ (fun t => (h, t)) okt_binding_17 K 17 (lvt_binding_17 Γ) []) 55 [(0, vA (mg Γ) 21), (1, vI l1), (2, vI l2), (3, vI l3)] [] (t_binding_55 k_65 l1 l2 l3) := by
  unfold t_binding_55
  refine s_aload_n o dX11_binding_55 rfl 0 rfl ?_
  refine s_tga (x := 27) o hT tf_nexts ta_nexts (lw_all_tbl q2520) dX11_binding_56 ?_
  refine s_iload_n o dX11_binding_59 rfl 3 rfl ?_
  refine r_tiald o hT tr_nexts hl3 dX11_binding_60 (fun v1 hv1 => ?_)
  refine r_istore_nP o dX11_binding_61 rfl rfl [(0, vA (mg Γ) 21), (1, vI l1), (2, vI l2)] [0, 1, 2] rfl ⟨(Nat.ne_of_beq_eq_false rfl), (fun _ => (vA_cat (mg Γ) 21)), ⟨(Nat.ne_of_beq_eq_false rfl), (fun _ => rfl), ⟨(Nat.ne_of_beq_eq_false rfl), (fun _ => rfl), trivial⟩⟩⟩ ?_
  refine s_goto (tgt := 17) o dX11_binding_62 (by decide) ?_
  refine r_to [(0, vA (mg Γ) 21), (1, vI l1), (2, vI l2), (3, vI v1)] [1, 2, 3, 0] rfl ?_
  exact s_back (⟨hl1, hl2, hv1⟩) rfl
noncomputable def t_binding_17b {A : Type} (k_65 : Int → Int → Mo TS A) (l1 : Int) (l2 : Int) (l3 : Int) : Mo TS ((Int × Int × Int) ⊕ A) :=
  if l3 < 0 then
    lo (k_65 l1 l2)
  else
    bnd (gs 6) fun v1 =>
    if ¬ v1 = 3 then
      t_binding_55 k_65 l1 (w32 (l2 + 1)) l3
    else
      bnd (rd 20 3200 l3) fun v2 =>
      bnd (gs 8) fun v3 =>
      if ¬ v2 = v3 then
        t_binding_55 k_65 l1 (w32 (l2 + 1)) l3
      else
        bnd (gs 7) fun v4 =>
        bnd (t_fail 2 v4) fun _ =>
        t_binding_55 k_65 l1 (w32 (l2 + 1)) l3
theorem st_binding_17b {Γ : Gm} {h : CH} {d : Nat} (hT : HT h) (o : Ok Γ "LazyForgeModel" cX11_binding 4 (Option.none : Option Jvm.ClassFile.FieldType) (d + 6)) {A : Type} {K : A → TS → Prop} (k_65 : Int → Int → Mo TS A) (hk_65 : ∀ (l1 : Int) (l2 : Int), R32 l1 → R32 l2 → Sx Γ (fun t => (h, t)) K 65 [(0, vA (mg Γ) 21), (1, vI l1), (2, vI l2)] [] (k_65 l1 l2)) (l1 : Int) (l2 : Int) (l3 : Int) (hl1 : R32 l1) (hl2 : R32 l2) (hl3 : R32 l3) : Sx Γ (fun t => (h, t)) (KL Γ (fun t => (h, t)) okt_binding_17 K 17 (lvt_binding_17 Γ) []) 17 [(0, vA (mg Γ) 21), (1, vI l1), (2, vI l2), (3, vI l3)] [] (t_binding_17b k_65 l1 l2 l3) := by
  unfold t_binding_17b
  refine s_iload_n o dX11_binding_17 rfl 3 rfl ?_
  refine s_if_lt (tgt := 65) o dX11_binding_18 (by decide) hl3 ?_ ?_
  · refine r_to [(0, vA (mg Γ) 21), (1, vI l1), (2, vI l2)] [0, 1, 2] rfl ?_
    exact s_lo (hk_65 l1 l2 hl1 hl2)
  · refine r_iinc (j := 2) o dX11_binding_21 rfl rfl [(0, vA (mg Γ) 21), (1, vI l1), (3, vI l3)] [0, 1, 3] rfl ⟨(Nat.ne_of_beq_eq_false rfl), (fun _ => (vA_cat (mg Γ) 21)), ⟨(Nat.ne_of_beq_eq_false rfl), (fun _ => rfl), ⟨(Nat.ne_of_beq_eq_false rfl), (fun _ => rfl), trivial⟩⟩⟩ ?_
    refine s_aload_n o dX11_binding_24 rfl 1 rfl ?_
    refine r_tgf vI rfl o hT tf_word tj_word (lw_all_tbl q2510) dX11_binding_25 (fun v1 hv1 => ?_)
    refine s_iconst o dX11_binding_28 ?_
    refine s_icmp_ne (tgt := 55) o dX11_binding_29 (by decide) hv1 (r32 rfl) ?_ ?_
    · refine r_to [(0, vA (mg Γ) 21), (1, vI l1), (2, vI (w32 (l2 + 1))), (3, vI l3)] [1, 2, 0, 3] rfl ?_
      exact st_binding_55 hT o k_65 hk_65 l1 (w32 (l2 + 1)) l3 hl1 (w32_R _) hl3
    · refine s_aload_n o dX11_binding_32 rfl 1 rfl ?_
      refine s_tga (x := 31) o hT tf_nodeNames ta_nodeNames (lw_all_tbl q2524) dX11_binding_33 ?_
      refine s_iload_n o dX11_binding_36 rfl 3 rfl ?_
      refine r_tlald o hT tr_nodeNames hl3 dX11_binding_37 (fun v2 hv2 => ?_)
      refine s_aload_n o dX11_binding_38 rfl 1 rfl ?_
      refine r_tgf vJ rfl o hT tf_wordName tj_wordName (lw_all_tbl q2512) dX11_binding_39 (fun v3 hv3 => ?_)
      refine s_lcmp_ne (tgt := 55) o dX11_binding_42 dX11_binding_43 (by decide) hv2 hv3 ?_ ?_
      · refine r_to [(0, vA (mg Γ) 21), (1, vI l1), (2, vI (w32 (l2 + 1))), (3, vI l3)] [1, 2, 0, 3] rfl ?_
        exact st_binding_55 hT o k_65 hk_65 l1 (w32 (l2 + 1)) l3 hl1 (w32_R _) hl3
      · refine s_aload_n o dX11_binding_46 rfl 1 rfl ?_
        refine s_iconst o dX11_binding_47 ?_
        refine s_aload_n o dX11_binding_48 rfl 1 rfl ?_
        refine r_tgf vI rfl o hT tf_wordPlace tj_wordPlace (lw_all_tbl q2511) dX11_binding_49 (fun v4 hv4 => ?_)
        refine s_cv (d := d + 5) (C := "LazyForgeModel") (As := [vI 2, vI v4]) (st := []) o (st_fail (mg Γ) (d + 5) h hT 2 v4 (r32 rfl) hv4) mw_X11_fail rfl (Or.inl (lw_all_tbl q2975)) (lw_all_tbl qs64) (lw_all_tbl q2977) (fun t => rc_t o hT t) wt_0 rfl dX11_binding_52 rfl (rs := fun _ => []) (fun _ => rfl) (fun _ _ => ?_)
        refine r_to [(0, vA (mg Γ) 21), (1, vI l1), (2, vI (w32 (l2 + 1))), (3, vI l3)] [1, 2, 0, 3] rfl ?_
        exact st_binding_55 hT o k_65 hk_65 l1 (w32 (l2 + 1)) l3 hl1 (w32_R _) hl3
noncomputable def t_binding_17 {A : Type} (k_65 : Int → Int → Mo TS A) (l1 : Int) (l2 : Int) (l3 : Int) : Mo TS A := Loop (fun x => t_binding_17b k_65 x.1 x.2.1 x.2.2) (l1, l2, l3)
theorem st_binding_17 {Γ : Gm} {h : CH} {d : Nat} (hT : HT h) (o : Ok Γ "LazyForgeModel" cX11_binding 4 (Option.none : Option Jvm.ClassFile.FieldType) (d + 6)) {A : Type} {K : A → TS → Prop} (k_65 : Int → Int → Mo TS A) (hk_65 : ∀ (l1 : Int) (l2 : Int), R32 l1 → R32 l2 → Sx Γ (fun t => (h, t)) K 65 [(0, vA (mg Γ) 21), (1, vI l1), (2, vI l2)] [] (k_65 l1 l2)) (l1 : Int) (l2 : Int) (l3 : Int) (hl1 : R32 l1) (hl2 : R32 l2) (hl3 : R32 l3) : Sx Γ (fun t => (h, t)) K 17 [(0, vA (mg Γ) 21), (1, vI l1), (2, vI l2), (3, vI l3)] [] (t_binding_17 k_65 l1 l2 l3) :=
  s_loop okt_binding_17 (lvt_binding_17 Γ) (fun x hx => st_binding_17b hT o k_65 hk_65 x.1 x.2.1 x.2.2 hx.1 hx.2.1 hx.2.2) (x := (l1, l2, l3)) ⟨hl1, hl2, hl3⟩
noncomputable def t_binding_102  : Mo TS Int :=
  bnd (t_wrong) fun _ =>
  pr 0
theorem st_binding_102 {Γ : Gm} {h : CH} {d : Nat} (hT : HT h) (o : Ok Γ "LazyForgeModel" cX11_binding 4 (Option.none : Option Jvm.ClassFile.FieldType) (d + 6))   : Sx Γ (fun t => (h, t)) (fun a s => mt Γ = (0, a, ((h, s) : Wd))) 102 [(0, vA (mg Γ) 21)] [] (t_binding_102) := by
  unfold t_binding_102
  refine s_aload_n o dX11_binding_102 rfl 0 rfl ?_
  refine s_cv (d := d + 5) (C := "LazyForgeModel") (As := []) (st := []) o (st_wrong (mg Γ) (d + 4) h hT) mw_X11_wrong rfl (Or.inl (lw_all_tbl q2983)) (lw_all_tbl qs66) (lw_all_tbl q2985) (fun t => rc_t o hT t) wt_0 rfl dX11_binding_103 rfl (rs := fun _ => []) (fun _ => rfl) (fun _ _ => ?_)
  exact s_vret o rfl dX11_binding_106 (fun _ hh => hh)
noncomputable def t_binding_87  (l1 : Int) : Mo TS Int :=
  bnd (gs 10) fun v1 =>
  if 0 < v1 then
    t_binding_102
  else
    bnd (gs 6) fun v2 =>
    if v2 = 3 then
      bnd (t_node 1) fun v3 =>
      bnd (gs 8) fun v4 =>
      bnd (wr 20 3200 v3 v4) fun _ =>
      bnd (t_append l1 v3) fun _ =>
      bnd (t_next) fun _ =>
      bnd (t_parameters v3 0) fun _ =>
      bnd (t_isSign 61) fun v5 =>
      bnd (t_accept v5) fun _ =>
      bnd (t_pile 2 v3 0) fun _ =>
      bnd (ss 43 1) fun _ =>
      bnd (ss 42 1) fun _ =>
      pr 0
    else
      t_binding_102
theorem st_binding_87 {Γ : Gm} {h : CH} {d : Nat} (hT : HT h) (o : Ok Γ "LazyForgeModel" cX11_binding 4 (Option.none : Option Jvm.ClassFile.FieldType) (d + 6))   (l1 : Int) (hl1 : R32 l1) : Sx Γ (fun t => (h, t)) (fun a s => mt Γ = (0, a, ((h, s) : Wd))) 87 [(0, vA (mg Γ) 21), (1, vI l1)] [] (t_binding_87 l1) := by
  unfold t_binding_87
  refine s_aload_n o dX11_binding_87 rfl 0 rfl ?_
  refine r_tgf vI rfl o hT tf_fault tj_fault (lw_all_tbl q2514) dX11_binding_88 (fun v1 hv1 => ?_)
  refine s_if_gt (tgt := 102) o dX11_binding_91 (by decide) hv1 ?_ ?_
  · refine r_to [(0, vA (mg Γ) 21)] [0] rfl ?_
    exact st_binding_102 hT o
  · refine s_aload_n o dX11_binding_94 rfl 0 rfl ?_
    refine r_tgf vI rfl o hT tf_word tj_word (lw_all_tbl q2510) dX11_binding_95 (fun v2 hv2 => ?_)
    refine s_iconst o dX11_binding_98 ?_
    refine s_icmp_eq (tgt := 107) o dX11_binding_99 (by decide) hv2 (r32 rfl) ?_ ?_
    · refine s_aload_n o dX11_binding_107 rfl 0 rfl ?_
      refine s_iconst o dX11_binding_108 ?_
      refine s_cv (d := d + 5) (C := "LazyForgeModel") (As := [vI 1]) (st := []) o (st_node (mg Γ) (d + 5) h hT 1 (r32 rfl)) mw_X11_node rfl (Or.inl (lw_all_tbl q2995)) (lw_all_tbl qs69) (lw_all_tbl q2997) (fun t => rc_t o hT t) wt_0 rfl dX11_binding_109 rfl (rs := fun r => [vI r]) (fun _ => rfl) (fun v3 hv3 => ?_)
      refine r_istore_n o dX11_binding_112 rfl rfl ⟨(Nat.ne_of_beq_eq_false rfl), (fun _ => (vA_cat (mg Γ) 21)), ⟨(Nat.ne_of_beq_eq_false rfl), (fun _ => rfl), trivial⟩⟩ ?_
      refine s_aload_n o dX11_binding_113 rfl 1 rfl ?_
      refine s_tga (x := 31) o hT tf_nodeNames ta_nodeNames (lw_all_tbl q2524) dX11_binding_114 ?_
      refine s_iload_n o dX11_binding_117 rfl 0 rfl ?_
      refine s_aload_n o dX11_binding_118 rfl 1 rfl ?_
      refine r_tgf vJ rfl o hT tf_wordName tj_wordName (lw_all_tbl q2512) dX11_binding_119 (fun v4 hv4 => ?_)
      refine r_tlast o hT tr_nodeNames (hv3 _ rfl) hv4 dX11_binding_122 ?_
      refine s_aload_n o dX11_binding_123 rfl 1 rfl ?_
      refine s_iload_n o dX11_binding_124 rfl 2 rfl ?_
      refine s_iload_n o dX11_binding_125 rfl 0 rfl ?_
      refine s_cv (d := d + 5) (C := "LazyForgeModel") (As := [vI l1, vI v3]) (st := []) o (st_append (mg Γ) (d + 5) h hT l1 v3 hl1 (hv3 _ rfl)) mw_X11_append rfl (Or.inl (lw_all_tbl q3039)) (lw_all_tbl qs80) (lw_all_tbl q3041) (fun t => rc_t o hT t) wt_0 rfl dX11_binding_126 rfl (rs := fun _ => []) (fun _ => rfl) (fun _ _ => ?_)
      refine s_aload_n o dX11_binding_129 rfl 1 rfl ?_
      refine s_cv (d := d + 5) (C := "LazyForgeModel") (As := []) (st := []) o (st_next (mg Γ) (d + 2) h hT) mw_X11_next rfl (Or.inl (lw_all_tbl q2932)) (lw_all_tbl qs57) (lw_all_tbl q2934) (fun t => rc_t o hT t) wt_0 rfl dX11_binding_130 rfl (rs := fun _ => []) (fun _ => rfl) (fun _ _ => ?_)
      refine s_aload_n o dX11_binding_133 rfl 1 rfl ?_
      refine s_iload_n o dX11_binding_134 rfl 0 rfl ?_
      refine s_iconst o dX11_binding_135 ?_
      refine s_cv (d := d + 5) (C := "LazyForgeModel") (As := [vI v3, vI 0]) (st := []) o (st_parameters (mg Γ) d h hT v3 0 (hv3 _ rfl) (r32 rfl)) mw_X11_parameters rfl (Or.inl (lw_all_tbl q2999)) (lw_all_tbl qs70) (lw_all_tbl q3001) (fun t => rc_t o hT t) wt_0 rfl dX11_binding_136 rfl (rs := fun _ => []) (fun _ => rfl) (fun _ _ => ?_)
      refine s_aload_n o dX11_binding_139 rfl 1 rfl ?_
      refine s_aload_n o dX11_binding_140 rfl 1 rfl ?_
      refine s_bipush o dX11_binding_141 rfl ?_
      refine s_cv (d := d + 5) (C := "LazyForgeModel") (As := [vI 61]) (st := [vA (mg Γ) 21]) o (st_isSign (mg Γ) (d + 5) h hT 61 (r32 rfl)) mw_X11_isSign rfl (Or.inl (lw_all_tbl q2987)) (lw_all_tbl qs67) (lw_all_tbl q2989) (fun t => rc_t o hT t) (wt_A wt_0) rfl dX11_binding_143 rfl (rs := fun r => [vI r, vA (mg Γ) 21]) (fun _ => rfl) (fun v5 hv5 => ?_)
      refine s_cv (d := d + 5) (C := "LazyForgeModel") (As := [vI v5]) (st := []) o (st_accept (mg Γ) (d + 1) h hT v5 (hv5 _ rfl)) mw_X11_accept rfl (Or.inl (lw_all_tbl q2979)) (lw_all_tbl qs65) (lw_all_tbl q2981) (fun t => rc_t o hT t) wt_0 rfl dX11_binding_146 rfl (rs := fun _ => []) (fun _ => rfl) (fun _ _ => ?_)
      refine s_aload_n o dX11_binding_149 rfl 1 rfl ?_
      refine s_iconst o dX11_binding_150 ?_
      refine s_iload_n o dX11_binding_151 rfl 0 rfl ?_
      refine s_iconst o dX11_binding_152 ?_
      refine s_cv (d := d + 5) (C := "LazyForgeModel") (As := [vI 2, vI v3, vI 0]) (st := []) o (st_pile (mg Γ) (d + 5) h hT 2 v3 0 (r32 rfl) (hv3 _ rfl) (r32 rfl)) mw_X11_pile rfl (Or.inl (lw_all_tbl q3019)) (lw_all_tbl qs75) (lw_all_tbl q3021) (fun t => rc_t o hT t) wt_0 rfl dX11_binding_153 rfl (rs := fun _ => []) (fun _ => rfl) (fun _ _ => ?_)
      refine s_aload_n o dX11_binding_156 rfl 1 rfl ?_
      refine s_iconst o dX11_binding_157 ?_
      refine r_tpf vI rfl o hT tf_wants tj_wants (lw_all_tbl q2547) dX11_binding_158 (Or.inr rfl) ty_boolean ?_
      refine s_aload_n o dX11_binding_161 rfl 1 rfl ?_
      refine s_iconst o dX11_binding_162 ?_
      refine r_tpf vI rfl o hT tf_startsE tj_startsE (lw_all_tbl q2546) dX11_binding_163 (Or.inr rfl) ty_boolean ?_
      exact s_vret o rfl dX11_binding_166 (fun _ hh => hh)
    · refine r_to [(0, vA (mg Γ) 21)] [0] rfl ?_
      exact st_binding_102 hT o
noncomputable def t_binding (l1 : Int) : Mo TS Int :=
  bnd (gs 10) fun v1 =>
  if v1 ≤ 0 then
    bnd (rd 14 3200 l1) fun v2 =>
    t_binding_17
      (fun v3 v4 => bnd (gs 6) fun v5 =>
    if ¬ v5 = 3 then
      t_binding_87 v3
    else
      if ¬ v4 = 5 then
        t_binding_87 v3
      else
        bnd (gs 7) fun v6 =>
        bnd (t_fail 4 v6) fun _ =>
        t_binding_87 v3) l1 0 v2
  else
    pr 0
theorem st_binding (g : gC) (d : Nat) (h : CH) (hT : HT h) (l1 : Int) (hl1 : R32 l1) : SF g yX11_binding (Cond.code yX11_binding cX11_binding 4 (Option.none : Option Jvm.ClassFile.FieldType)) (Option.none : Option Jvm.ClassFile.FieldType) (d + 6) [vA g 21, vI l1] (fun t => (h, t)) (t_binding l1) := by
  refine SF.of (lv := [(0, vA g 21), (1, vI l1)]) (by decide) (wt_A (wt_I wt_0)) rfl (by simp only [la_A, la_I, la_J, la_0]) (fun Γ hg hnm o => ?_)
  subst hg
  have o : Ok Γ "LazyForgeModel" cX11_binding 4 (Option.none : Option Jvm.ClassFile.FieldType) (d + 6) := o
  unfold t_binding
  refine s_aload_n o dX11_binding_0 rfl 0 rfl ?_
  refine r_tgf vI rfl o hT tf_fault tj_fault (lw_all_tbl q2514) dX11_binding_1 (fun v1 hv1 => ?_)
  refine s_if_le (tgt := 8) o dX11_binding_4 (by decide) hv1 ?_ ?_
  · refine s_iconst o dX11_binding_8 ?_
    refine r_istore_n o dX11_binding_9 rfl rfl ⟨(Nat.ne_of_beq_eq_false rfl), (fun _ => (vA_cat (mg Γ) 21)), ⟨(Nat.ne_of_beq_eq_false rfl), (fun _ => rfl), trivial⟩⟩ ?_
    refine s_aload_n o dX11_binding_10 rfl 1 rfl ?_
    refine s_tga (x := 25) o hT tf_firsts ta_firsts (lw_all_tbl q2518) dX11_binding_11 ?_
    refine s_iload_n o dX11_binding_14 rfl 2 rfl ?_
    refine r_tiald o hT tr_firsts hl1 dX11_binding_15 (fun v2 hv2 => ?_)
    refine r_istore_n o dX11_binding_16 rfl rfl ⟨(Nat.ne_of_beq_eq_false rfl), (fun _ => rfl), ⟨(Nat.ne_of_beq_eq_false rfl), (fun _ => (vA_cat (mg Γ) 21)), ⟨(Nat.ne_of_beq_eq_false rfl), (fun _ => rfl), trivial⟩⟩⟩ ?_
    refine r_to [(0, vA (mg Γ) 21), (1, vI l1), (2, vI 0), (3, vI v2)] [2, 3, 1, 0] rfl ?_
    refine st_binding_17 hT o _ ?_ l1 0 v2 hl1 (r32 rfl) hv2
    · intro v3 v4 hv3 hv4
      refine s_aload_n o dX11_binding_65 rfl 0 rfl ?_
      refine r_tgf vI rfl o hT tf_word tj_word (lw_all_tbl q2510) dX11_binding_66 (fun v5 hv5 => ?_)
      refine s_iconst o dX11_binding_69 ?_
      refine s_icmp_ne (tgt := 87) o dX11_binding_70 (by decide) hv5 (r32 rfl) ?_ ?_
      · refine r_to [(0, vA (mg Γ) 21), (1, vI v3)] [0, 1] rfl ?_
        exact st_binding_87 hT o v3 hv3
      · refine s_iload_n o dX11_binding_73 rfl 2 rfl ?_
        refine s_iconst o dX11_binding_74 ?_
        refine s_icmp_ne (tgt := 87) o dX11_binding_75 (by decide) hv4 (r32 rfl) ?_ ?_
        · refine r_to [(0, vA (mg Γ) 21), (1, vI v3)] [0, 1] rfl ?_
          exact st_binding_87 hT o v3 hv3
        · refine s_aload_n o dX11_binding_78 rfl 0 rfl ?_
          refine s_iconst o dX11_binding_79 ?_
          refine s_aload_n o dX11_binding_80 rfl 0 rfl ?_
          refine r_tgf vI rfl o hT tf_wordPlace tj_wordPlace (lw_all_tbl q2511) dX11_binding_81 (fun v6 hv6 => ?_)
          refine s_cv (d := d + 5) (C := "LazyForgeModel") (As := [vI 4, vI v6]) (st := []) o (st_fail (mg Γ) (d + 5) h hT 4 v6 (r32 rfl) hv6) mw_X11_fail rfl (Or.inl (lw_all_tbl q2975)) (lw_all_tbl qs64) (lw_all_tbl q2977) (fun t => rc_t o hT t) wt_0 rfl dX11_binding_84 rfl (rs := fun _ => []) (fun _ => rfl) (fun _ _ => ?_)
          refine r_to [(0, vA (mg Γ) 21), (1, vI v3)] [0, 1] rfl ?_
          exact st_binding_87 hT o v3 hv3
  · exact s_vret o rfl dX11_binding_7 (fun _ hh => hh)
theorem dX11_field_0 : decode cX11_field 0 = .ok (.aload_n 0, 1) := by decide +kernel
theorem dX11_field_1 : decode cX11_field 1 = .ok (.invokevirtual 417, 3) := by decide +kernel
theorem dX11_field_4 : decode cX11_field 4 = .ok (.aload_n 0, 1) := by decide +kernel
theorem dX11_field_5 : decode cX11_field 5 = .ok (.getfield 311, 3) := by decide +kernel
theorem dX11_field_8 : decode cX11_field 8 = .ok (.ifCond .ne 17, 3) := by decide +kernel
theorem dX11_field_11 : decode cX11_field 11 = .ok (.aload_n 0, 1) := by decide +kernel
theorem dX11_field_12 : decode cX11_field 12 = .ok (.getfield 74, 3) := by decide +kernel
theorem dX11_field_15 : decode cX11_field 15 = .ok (.iload_n 1, 1) := by decide +kernel
theorem dX11_field_16 : decode cX11_field 16 = .ok (.iaload, 1) := by decide +kernel
theorem dX11_field_17 : decode cX11_field 17 = .ok (.ifCond .ne 8, 3) := by decide +kernel
theorem dX11_field_20 : decode cX11_field 20 = .ok (.aload_n 0, 1) := by decide +kernel
theorem dX11_field_21 : decode cX11_field 21 = .ok (.invokevirtual 355, 3) := by decide +kernel
theorem dX11_field_24 : decode cX11_field 24 = .ok (.pop, 1) := by decide +kernel
theorem dX11_field_25 : decode cX11_field 25 = .ok (.aload_n 0, 1) := by decide +kernel
theorem dX11_field_26 : decode cX11_field 26 = .ok (.getfield 311, 3) := by decide +kernel
theorem dX11_field_29 : decode cX11_field 29 = .ok (.ifCond .ne 14, 3) := by decide +kernel
theorem dX11_field_32 : decode cX11_field 32 = .ok (.aload_n 0, 1) := by decide +kernel
theorem dX11_field_33 : decode cX11_field 33 = .ok (.invokevirtual 411, 3) := by decide +kernel
theorem dX11_field_36 : decode cX11_field 36 = .ok (.ifCond .eq 7, 3) := by decide +kernel
theorem dX11_field_39 : decode cX11_field 39 = .ok (.iconst 1, 1) := by decide +kernel
theorem dX11_field_40 : decode cX11_field 40 = .ok (.goto 4, 3) := by decide +kernel
theorem dX11_field_43 : decode cX11_field 43 = .ok (.iconst 0, 1) := by decide +kernel
theorem dX11_field_44 : decode cX11_field 44 = .ok (.ireturn, 1) := by decide +kernel
theorem mw_X11_field : MW yX11_field (Cond.code yX11_field cX11_field 2 (Option.some Jvm.ClassFile.FieldType.boolean)) cX11_field 2 (Option.some Jvm.ClassFile.FieldType.boolean) 1 := ⟨rfl, ⟨(lw_all_tbl q3050), rfl, (lw_all_tbl q173)⟩, rfl, ⟨by decide, by decide⟩, by decide +kernel⟩
noncomputable def t_field_25  : Mo TS Int :=
  bnd (gs 10) fun v1 =>
  if ¬ v1 = 0 then
    pr 0
  else
    bnd (t_atom) fun v2 =>
    if v2 = 0 then
      pr 0
    else
      pr 1
theorem st_field_25 {Γ : Gm} {h : CH} {d : Nat} (hT : HT h) (o : Ok Γ "LazyForgeModel" cX11_field 2 (Option.some Jvm.ClassFile.FieldType.boolean) (d + 6))   : Sx Γ (fun t => (h, t)) (fun a s => mt Γ = (0, a, ((h, s) : Wd))) 25 [(0, vA (mg Γ) 21)] [] (t_field_25) := by
  unfold t_field_25
  refine s_aload_n o dX11_field_25 rfl 0 rfl ?_
  refine r_tgf vI rfl o hT tf_fault tj_fault (lw_all_tbl q2514) dX11_field_26 (fun v1 hv1 => ?_)
  refine s_if_ne (tgt := 43) o dX11_field_29 (by decide) hv1 ?_ ?_
  · refine s_iconst o dX11_field_43 ?_
    exact s_iret o rfl i_boolean (Or.inl rfl) dX11_field_44 (fun _ hh => hh)
  · refine s_aload_n o dX11_field_32 rfl 0 rfl ?_
    refine s_cv (d := d + 5) (C := "LazyForgeModel") (As := []) (st := []) o (st_atom (mg Γ) d h hT) mw_X11_atom rfl (Or.inl (lw_all_tbl q3063)) (lw_all_tbl qs86) (lw_all_tbl q3065) (fun t => rc_t o hT t) wt_0 rfl dX11_field_33 rfl (rs := fun r => [vI r]) (fun _ => rfl) (fun v2 hv2 => ?_)
    refine s_if_eq (tgt := 43) o dX11_field_36 (by decide) (rZ (hv2 _ rfl)) ?_ ?_
    · refine s_iconst o dX11_field_43 ?_
      exact s_iret o rfl i_boolean (Or.inl rfl) dX11_field_44 (fun _ hh => hh)
    · refine s_iconst o dX11_field_39 ?_
      refine s_goto (tgt := 44) o dX11_field_40 (by decide) ?_
      exact s_iret o rfl i_boolean (Or.inr rfl) dX11_field_44 (fun _ hh => hh)
noncomputable def t_field (l1 : Int) : Mo TS Int :=
  bnd (t_judgeAtom) fun _ =>
  bnd (gs 10) fun v1 =>
  if ¬ v1 = 0 then
    t_field_25
  else
    bnd (rd 39 3200 l1) fun v2 =>
    if ¬ v2 = 0 then
      t_field_25
    else
      bnd (t_part) fun v3 =>
      t_field_25
theorem st_field (g : gC) (d : Nat) (h : CH) (hT : HT h) (l1 : Int) (hl1 : R32 l1) : SF g yX11_field (Cond.code yX11_field cX11_field 2 (Option.some Jvm.ClassFile.FieldType.boolean)) (Option.some Jvm.ClassFile.FieldType.boolean) (d + 6) [vA g 21, vI l1] (fun t => (h, t)) (t_field l1) := by
  refine SF.of (lv := [(0, vA g 21), (1, vI l1)]) (by decide) (wt_A (wt_I wt_0)) rfl (by simp only [la_A, la_I, la_J, la_0]) (fun Γ hg hnm o => ?_)
  subst hg
  have o : Ok Γ "LazyForgeModel" cX11_field 2 (Option.some Jvm.ClassFile.FieldType.boolean) (d + 6) := o
  unfold t_field
  refine s_aload_n o dX11_field_0 rfl 0 rfl ?_
  refine s_cv (d := d + 5) (C := "LazyForgeModel") (As := []) (st := []) o (st_judgeAtom (mg Γ) (d + 2) h hT) mw_X11_judgeAtom rfl (Or.inl (lw_all_tbl q3051)) (lw_all_tbl qs83) (lw_all_tbl q3053) (fun t => rc_t o hT t) wt_0 rfl dX11_field_1 rfl (rs := fun _ => []) (fun _ => rfl) (fun _ _ => ?_)
  refine s_aload_n o dX11_field_4 rfl 0 rfl ?_
  refine r_tgf vI rfl o hT tf_fault tj_fault (lw_all_tbl q2514) dX11_field_5 (fun v1 hv1 => ?_)
  refine s_if_ne (tgt := 25) o dX11_field_8 (by decide) hv1 ?_ ?_
  · refine r_to [(0, vA (mg Γ) 21)] [0] rfl ?_
    exact st_field_25 hT o
  · refine s_aload_n o dX11_field_11 rfl 0 rfl ?_
    refine s_tga (x := 43) o hT tf_pileCounts ta_pileCounts (lw_all_tbl q2543) dX11_field_12 ?_
    refine s_iload_n o dX11_field_15 rfl 1 rfl ?_
    refine r_tiald o hT tr_pileCounts hl1 dX11_field_16 (fun v2 hv2 => ?_)
    refine s_if_ne (tgt := 25) o dX11_field_17 (by decide) hv2 ?_ ?_
    · refine r_to [(0, vA (mg Γ) 21)] [0] rfl ?_
      exact st_field_25 hT o
    · refine s_aload_n o dX11_field_20 rfl 0 rfl ?_
      refine s_cv (d := d + 5) (C := "LazyForgeModel") (As := []) (st := []) o (st_part (mg Γ) (d + 4) h hT) mw_X11_part rfl (Or.inl (lw_all_tbl q3007)) (lw_all_tbl qs72) (lw_all_tbl q3009) (fun t => rc_t o hT t) wt_0 rfl dX11_field_21 rfl (rs := fun r => [vI r]) (fun _ => rfl) (fun v3 hv3 => ?_)
      refine s_pop o dX11_field_24 rfl ?_
      refine r_to [(0, vA (mg Γ) 21)] [0] rfl ?_
      exact st_field_25 hT o
theorem dX11_endBranch_0 : decode cX11_endBranch 0 = .ok (.aload_n 0, 1) := by decide +kernel
theorem dX11_endBranch_1 : decode cX11_endBranch 1 = .ok (.getfield 19, 3) := by decide +kernel
theorem dX11_endBranch_4 : decode cX11_endBranch 4 = .ok (.iload_n 1, 1) := by decide +kernel
theorem dX11_endBranch_5 : decode cX11_endBranch 5 = .ok (.aload_n 0, 1) := by decide +kernel
theorem dX11_endBranch_6 : decode cX11_endBranch 6 = .ok (.invokevirtual 420, 3) := by decide +kernel
theorem dX11_endBranch_9 : decode cX11_endBranch 9 = .ok (.iastore, 1) := by decide +kernel
theorem dX11_endBranch_10 : decode cX11_endBranch 10 = .ok (.aload_n 0, 1) := by decide +kernel
theorem dX11_endBranch_11 : decode cX11_endBranch 11 = .ok (.dup, 1) := by decide +kernel
theorem dX11_endBranch_12 : decode cX11_endBranch 12 = .ok (.getfield 342, 3) := by decide +kernel
theorem dX11_endBranch_15 : decode cX11_endBranch 15 = .ok (.iconst 1, 1) := by decide +kernel
theorem dX11_endBranch_16 : decode cX11_endBranch 16 = .ok (.isub, 1) := by decide +kernel
theorem dX11_endBranch_17 : decode cX11_endBranch 17 = .ok (.putfield 342, 3) := by decide +kernel
theorem dX11_endBranch_20 : decode cX11_endBranch 20 = .ok (.aload_n 0, 1) := by decide +kernel
theorem dX11_endBranch_21 : decode cX11_endBranch 21 = .ok (.getfield 68, 3) := by decide +kernel
theorem dX11_endBranch_24 : decode cX11_endBranch 24 = .ok (.aload_n 0, 1) := by decide +kernel
theorem dX11_endBranch_25 : decode cX11_endBranch 25 = .ok (.getfield 342, 3) := by decide +kernel
theorem dX11_endBranch_28 : decode cX11_endBranch 28 = .ok (.iconst 1, 1) := by decide +kernel
theorem dX11_endBranch_29 : decode cX11_endBranch 29 = .ok (.isub, 1) := by decide +kernel
theorem dX11_endBranch_30 : decode cX11_endBranch 30 = .ok (.iaload, 1) := by decide +kernel
theorem dX11_endBranch_31 : decode cX11_endBranch 31 = .ok (.istore_n 2, 1) := by decide +kernel
theorem dX11_endBranch_32 : decode cX11_endBranch 32 = .ok (.aload_n 0, 1) := by decide +kernel
theorem dX11_endBranch_33 : decode cX11_endBranch 33 = .ok (.bipush 59, 2) := by decide +kernel
theorem dX11_endBranch_35 : decode cX11_endBranch 35 = .ok (.invokevirtual 383, 3) := by decide +kernel
theorem dX11_endBranch_38 : decode cX11_endBranch 38 = .ok (.ifCond .eq 15, 3) := by decide +kernel
theorem dX11_endBranch_41 : decode cX11_endBranch 41 = .ok (.aload_n 0, 1) := by decide +kernel
theorem dX11_endBranch_42 : decode cX11_endBranch 42 = .ok (.invokevirtual 321, 3) := by decide +kernel
theorem dX11_endBranch_45 : decode cX11_endBranch 45 = .ok (.aload_n 0, 1) := by decide +kernel
theorem dX11_endBranch_46 : decode cX11_endBranch 46 = .ok (.iload_n 2, 1) := by decide +kernel
theorem dX11_endBranch_47 : decode cX11_endBranch 47 = .ok (.invokevirtual 439, 3) := by decide +kernel
theorem dX11_endBranch_50 : decode cX11_endBranch 50 = .ok (.goto 18, 3) := by decide +kernel
theorem dX11_endBranch_53 : decode cX11_endBranch 53 = .ok (.aload_n 0, 1) := by decide +kernel
theorem dX11_endBranch_54 : decode cX11_endBranch 54 = .ok (.aload_n 0, 1) := by decide +kernel
theorem dX11_endBranch_55 : decode cX11_endBranch 55 = .ok (.bipush 125, 2) := by decide +kernel
theorem dX11_endBranch_57 : decode cX11_endBranch 57 = .ok (.invokevirtual 383, 3) := by decide +kernel
theorem dX11_endBranch_60 : decode cX11_endBranch 60 = .ok (.invokevirtual 359, 3) := by decide +kernel
theorem dX11_endBranch_63 : decode cX11_endBranch 63 = .ok (.aload_n 0, 1) := by decide +kernel
theorem dX11_endBranch_64 : decode cX11_endBranch 64 = .ok (.iload_n 2, 1) := by decide +kernel
theorem dX11_endBranch_65 : decode cX11_endBranch 65 = .ok (.invokevirtual 436, 3) := by decide +kernel
theorem dX11_endBranch_68 : decode cX11_endBranch 68 = .ok (.return_, 1) := by decide +kernel
theorem mw_X11_endBranch : MW yX11_endBranch (Cond.code yX11_endBranch cX11_endBranch 3 (Option.none : Option Jvm.ClassFile.FieldType)) cX11_endBranch 3 (Option.none : Option Jvm.ClassFile.FieldType) 1 := ⟨rfl, ⟨(lw_all_tbl q3109), rfl, (lw_all_tbl q173)⟩, rfl, ⟨by decide, by decide⟩, by decide +kernel⟩
noncomputable def t_endBranch (l1 : Int) : Mo TS Int :=
  bnd (t_taken) fun v1 =>
  bnd (wr 14 3200 l1 v1) fun _ =>
  bnd (gs 35) fun v2 =>
  bnd (ss 35 (w32 (v2 - 1))) fun _ =>
  bnd (gs 35) fun v3 =>
  bnd (rd 37 3200 (w32 (v3 - 1))) fun v4 =>
  bnd (t_isSign 59) fun v5 =>
  if v5 = 0 then
    bnd (t_isSign 125) fun v6 =>
    bnd (t_accept v6) fun _ =>
    bnd (t_close v4) fun _ =>
    pr 0
  else
    bnd (t_next) fun _ =>
    bnd (t_branch v4) fun _ =>
    pr 0
theorem st_endBranch (g : gC) (d : Nat) (h : CH) (hT : HT h) (l1 : Int) (hl1 : R32 l1) : SF g yX11_endBranch (Cond.code yX11_endBranch cX11_endBranch 3 (Option.none : Option Jvm.ClassFile.FieldType)) (Option.none : Option Jvm.ClassFile.FieldType) (d + 6) [vA g 21, vI l1] (fun t => (h, t)) (t_endBranch l1) := by
  refine SF.of (lv := [(0, vA g 21), (1, vI l1)]) (by decide) (wt_A (wt_I wt_0)) rfl (by simp only [la_A, la_I, la_J, la_0]) (fun Γ hg hnm o => ?_)
  subst hg
  have o : Ok Γ "LazyForgeModel" cX11_endBranch 3 (Option.none : Option Jvm.ClassFile.FieldType) (d + 6) := o
  unfold t_endBranch
  refine s_aload_n o dX11_endBranch_0 rfl 0 rfl ?_
  refine s_tga (x := 25) o hT tf_firsts ta_firsts (lw_all_tbl q2518) dX11_endBranch_1 ?_
  refine s_iload_n o dX11_endBranch_4 rfl 1 rfl ?_
  refine s_aload_n o dX11_endBranch_5 rfl 0 rfl ?_
  refine s_cv (d := d + 5) (C := "LazyForgeModel") (As := []) (st := [vI l1, vA (mg Γ) 25]) o (st_taken (mg Γ) (d + 5) h hT) mw_X11_taken rfl (Or.inl (lw_all_tbl q3075)) (lw_all_tbl qs89) (lw_all_tbl q3077) (fun t => rc_t o hT t) (wt_I (wt_A wt_0)) rfl dX11_endBranch_6 rfl (rs := fun r => [vI r, vI l1, vA (mg Γ) 25]) (fun _ => rfl) (fun v1 hv1 => ?_)
  refine r_tiast o hT tr_firsts hl1 (hv1 _ rfl) dX11_endBranch_9 ?_
  refine s_aload_n o dX11_endBranch_10 rfl 0 rfl ?_
  refine s_dup o dX11_endBranch_11 (vA_cat (mg Γ) 21) ?_
  refine r_tgf vI rfl o hT tf_piled tj_piled (lw_all_tbl q2539) dX11_endBranch_12 (fun v2 hv2 => ?_)
  refine s_iconst o dX11_endBranch_15 ?_
  refine s_isub o dX11_endBranch_16 ?_
  refine r_tpf vI rfl o hT tf_piled tj_piled (lw_all_tbl q2539) dX11_endBranch_17 (w32_R _) ty_int ?_
  refine s_aload_n o dX11_endBranch_20 rfl 0 rfl ?_
  refine s_tga (x := 41) o hT tf_pileNodes ta_pileNodes (lw_all_tbl q2541) dX11_endBranch_21 ?_
  refine s_aload_n o dX11_endBranch_24 rfl 0 rfl ?_
  refine r_tgf vI rfl o hT tf_piled tj_piled (lw_all_tbl q2539) dX11_endBranch_25 (fun v3 hv3 => ?_)
  refine s_iconst o dX11_endBranch_28 ?_
  refine s_isub o dX11_endBranch_29 ?_
  refine r_tiald o hT tr_pileNodes (w32_R _) dX11_endBranch_30 (fun v4 hv4 => ?_)
  refine r_istore_n o dX11_endBranch_31 rfl rfl ⟨(Nat.ne_of_beq_eq_false rfl), (fun _ => (vA_cat (mg Γ) 21)), ⟨(Nat.ne_of_beq_eq_false rfl), (fun _ => rfl), trivial⟩⟩ ?_
  refine s_aload_n o dX11_endBranch_32 rfl 1 rfl ?_
  refine s_bipush o dX11_endBranch_33 rfl ?_
  refine s_cv (d := d + 5) (C := "LazyForgeModel") (As := [vI 59]) (st := []) o (st_isSign (mg Γ) (d + 5) h hT 59 (r32 rfl)) mw_X11_isSign rfl (Or.inl (lw_all_tbl q2987)) (lw_all_tbl qs67) (lw_all_tbl q2989) (fun t => rc_t o hT t) wt_0 rfl dX11_endBranch_35 rfl (rs := fun r => [vI r]) (fun _ => rfl) (fun v5 hv5 => ?_)
  refine s_if_eq (tgt := 53) o dX11_endBranch_38 (by decide) (rZ (hv5 _ rfl)) ?_ ?_
  · refine s_aload_n o dX11_endBranch_53 rfl 1 rfl ?_
    refine s_aload_n o dX11_endBranch_54 rfl 1 rfl ?_
    refine s_bipush o dX11_endBranch_55 rfl ?_
    refine s_cv (d := d + 5) (C := "LazyForgeModel") (As := [vI 125]) (st := [vA (mg Γ) 21]) o (st_isSign (mg Γ) (d + 5) h hT 125 (r32 rfl)) mw_X11_isSign rfl (Or.inl (lw_all_tbl q2987)) (lw_all_tbl qs67) (lw_all_tbl q2989) (fun t => rc_t o hT t) (wt_A wt_0) rfl dX11_endBranch_57 rfl (rs := fun r => [vI r, vA (mg Γ) 21]) (fun _ => rfl) (fun v6 hv6 => ?_)
    refine s_cv (d := d + 5) (C := "LazyForgeModel") (As := [vI v6]) (st := []) o (st_accept (mg Γ) (d + 1) h hT v6 (hv6 _ rfl)) mw_X11_accept rfl (Or.inl (lw_all_tbl q2979)) (lw_all_tbl qs65) (lw_all_tbl q2981) (fun t => rc_t o hT t) wt_0 rfl dX11_endBranch_60 rfl (rs := fun _ => []) (fun _ => rfl) (fun _ _ => ?_)
    refine s_aload_n o dX11_endBranch_63 rfl 1 rfl ?_
    refine s_iload_n o dX11_endBranch_64 rfl 0 rfl ?_
    refine s_cv (d := d + 5) (C := "LazyForgeModel") (As := [vI v4]) (st := []) o (st_close (mg Γ) (d + 4) h hT v4 hv4) mw_X11_close rfl (Or.inl (lw_all_tbl q3098)) (lw_all_tbl qs94) (lw_all_tbl q3100) (fun t => rc_t o hT t) wt_0 rfl dX11_endBranch_65 rfl (rs := fun _ => []) (fun _ => rfl) (fun _ _ => ?_)
    exact s_vret o rfl dX11_endBranch_68 (fun _ hh => hh)
  · refine s_aload_n o dX11_endBranch_41 rfl 1 rfl ?_
    refine s_cv (d := d + 5) (C := "LazyForgeModel") (As := []) (st := []) o (st_next (mg Γ) (d + 2) h hT) mw_X11_next rfl (Or.inl (lw_all_tbl q2932)) (lw_all_tbl qs57) (lw_all_tbl q2934) (fun t => rc_t o hT t) wt_0 rfl dX11_endBranch_42 rfl (rs := fun _ => []) (fun _ => rfl) (fun _ _ => ?_)
    refine s_aload_n o dX11_endBranch_45 rfl 1 rfl ?_
    refine s_iload_n o dX11_endBranch_46 rfl 0 rfl ?_
    refine s_cv (d := d + 5) (C := "LazyForgeModel") (As := [vI v4]) (st := []) o (st_branch (mg Γ) d h hT v4 hv4) mw_X11_branch rfl (Or.inl (lw_all_tbl q3102)) (lw_all_tbl qs95) (lw_all_tbl q3104) (fun t => rc_t o hT t) wt_0 rfl dX11_endBranch_47 rfl (rs := fun _ => []) (fun _ => rfl) (fun _ _ => ?_)
    refine s_goto (tgt := 68) o dX11_endBranch_50 (by decide) ?_
    exact s_vret o rfl dX11_endBranch_68 (fun _ hh => hh)
theorem dX11_goOn_0 : decode cX11_goOn 0 = .ok (.aload_n 0, 1) := by decide +kernel
theorem dX11_goOn_1 : decode cX11_goOn 1 = .ok (.dup, 1) := by decide +kernel
theorem dX11_goOn_2 : decode cX11_goOn 2 = .ok (.getfield 611, 3) := by decide +kernel
theorem dX11_goOn_5 : decode cX11_goOn 5 = .ok (.iconst 1, 1) := by decide +kernel
theorem dX11_goOn_6 : decode cX11_goOn 6 = .ok (.isub, 1) := by decide +kernel
theorem dX11_goOn_7 : decode cX11_goOn 7 = .ok (.putfield 611, 3) := by decide +kernel
theorem dX11_goOn_10 : decode cX11_goOn 10 = .ok (.aload_n 0, 1) := by decide +kernel
theorem dX11_goOn_11 : decode cX11_goOn 11 = .ok (.getfield 219, 3) := by decide +kernel
theorem dX11_goOn_14 : decode cX11_goOn 14 = .ok (.aload_n 0, 1) := by decide +kernel
theorem dX11_goOn_15 : decode cX11_goOn 15 = .ok (.getfield 611, 3) := by decide +kernel
theorem dX11_goOn_18 : decode cX11_goOn 18 = .ok (.iaload, 1) := by decide +kernel
theorem dX11_goOn_19 : decode cX11_goOn 19 = .ok (.bipush 16, 2) := by decide +kernel
theorem dX11_goOn_21 : decode cX11_goOn 21 = .ok (.ishr, 1) := by decide +kernel
theorem dX11_goOn_22 : decode cX11_goOn 22 = .ok (.istore_n 1, 1) := by decide +kernel
theorem dX11_goOn_23 : decode cX11_goOn 23 = .ok (.aload_n 0, 1) := by decide +kernel
theorem dX11_goOn_24 : decode cX11_goOn 24 = .ok (.getfield 219, 3) := by decide +kernel
theorem dX11_goOn_27 : decode cX11_goOn 27 = .ok (.aload_n 0, 1) := by decide +kernel
theorem dX11_goOn_28 : decode cX11_goOn 28 = .ok (.getfield 611, 3) := by decide +kernel
theorem dX11_goOn_31 : decode cX11_goOn 31 = .ok (.iaload, 1) := by decide +kernel
theorem dX11_goOn_32 : decode cX11_goOn 32 = .ok (.ldc_w 739, 3) := by decide +kernel
theorem dX11_goOn_35 : decode cX11_goOn 35 = .ok (.iand, 1) := by decide +kernel
theorem dX11_goOn_36 : decode cX11_goOn 36 = .ok (.istore_n 2, 1) := by decide +kernel
theorem dX11_goOn_37 : decode cX11_goOn 37 = .ok (.aload_n 0, 1) := by decide +kernel
theorem dX11_goOn_38 : decode cX11_goOn 38 = .ok (.getfield 225, 3) := by decide +kernel
theorem dX11_goOn_41 : decode cX11_goOn 41 = .ok (.aload_n 0, 1) := by decide +kernel
theorem dX11_goOn_42 : decode cX11_goOn 42 = .ok (.getfield 611, 3) := by decide +kernel
theorem dX11_goOn_45 : decode cX11_goOn 45 = .ok (.iaload, 1) := by decide +kernel
theorem dX11_goOn_46 : decode cX11_goOn 46 = .ok (.istore_n 3, 1) := by decide +kernel
theorem dX11_goOn_47 : decode cX11_goOn 47 = .ok (.aload_n 0, 1) := by decide +kernel
theorem dX11_goOn_48 : decode cX11_goOn 48 = .ok (.getfield 623, 3) := by decide +kernel
theorem dX11_goOn_51 : decode cX11_goOn 51 = .ok (.lstore 4, 2) := by decide +kernel
theorem dX11_goOn_53 : decode cX11_goOn 53 = .ok (.iload_n 1, 1) := by decide +kernel
theorem dX11_goOn_54 : decode cX11_goOn 54 = .ok (.tableswitch 209 0 6 #[42, 70, 91, 117, 151, 161, 192], 42) := by decide +kernel
theorem dX11_goOn_96 : decode cX11_goOn 96 = .ok (.aload_n 0, 1) := by decide +kernel
theorem dX11_goOn_97 : decode cX11_goOn 97 = .ok (.getfield 194, 3) := by decide +kernel
theorem dX11_goOn_100 : decode cX11_goOn 100 = .ok (.iload_n 3, 1) := by decide +kernel
theorem dX11_goOn_101 : decode cX11_goOn 101 = .ok (.iconst 4, 1) := by decide +kernel
theorem dX11_goOn_102 : decode cX11_goOn 102 = .ok (.iastore, 1) := by decide +kernel
theorem dX11_goOn_103 : decode cX11_goOn 103 = .ok (.aload_n 0, 1) := by decide +kernel
theorem dX11_goOn_104 : decode cX11_goOn 104 = .ok (.getfield 200, 3) := by decide +kernel
theorem dX11_goOn_107 : decode cX11_goOn 107 = .ok (.iload_n 3, 1) := by decide +kernel
theorem dX11_goOn_108 : decode cX11_goOn 108 = .ok (.lload 4, 2) := by decide +kernel
theorem dX11_goOn_110 : decode cX11_goOn 110 = .ok (.lastore, 1) := by decide +kernel
theorem dX11_goOn_111 : decode cX11_goOn 111 = .ok (.aload_n 0, 1) := by decide +kernel
theorem dX11_goOn_112 : decode cX11_goOn 112 = .ok (.dup, 1) := by decide +kernel
theorem dX11_goOn_113 : decode cX11_goOn 113 = .ok (.getfield 740, 3) := by decide +kernel
theorem dX11_goOn_116 : decode cX11_goOn 116 = .ok (.iconst 1, 1) := by decide +kernel
theorem dX11_goOn_117 : decode cX11_goOn 117 = .ok (.iadd, 1) := by decide +kernel
theorem dX11_goOn_118 : decode cX11_goOn 118 = .ok (.putfield 740, 3) := by decide +kernel
theorem dX11_goOn_121 : decode cX11_goOn 121 = .ok (.goto 149, 3) := by decide +kernel
theorem dX11_goOn_124 : decode cX11_goOn 124 = .ok (.aload_n 0, 1) := by decide +kernel
theorem dX11_goOn_125 : decode cX11_goOn 125 = .ok (.aload_n 0, 1) := by decide +kernel
theorem dX11_goOn_126 : decode cX11_goOn 126 = .ok (.getfield 222, 3) := by decide +kernel
theorem dX11_goOn_129 : decode cX11_goOn 129 = .ok (.aload_n 0, 1) := by decide +kernel
theorem dX11_goOn_130 : decode cX11_goOn 130 = .ok (.getfield 611, 3) := by decide +kernel
theorem dX11_goOn_133 : decode cX11_goOn 133 = .ok (.iaload, 1) := by decide +kernel
theorem dX11_goOn_134 : decode cX11_goOn 134 = .ok (.putfield 614, 3) := by decide +kernel
theorem dX11_goOn_137 : decode cX11_goOn 137 = .ok (.aload_n 0, 1) := by decide +kernel
theorem dX11_goOn_138 : decode cX11_goOn 138 = .ok (.iload_n 3, 1) := by decide +kernel
theorem dX11_goOn_139 : decode cX11_goOn 139 = .ok (.putfield 682, 3) := by decide +kernel
theorem dX11_goOn_142 : decode cX11_goOn 142 = .ok (.goto 128, 3) := by decide +kernel
theorem dX11_goOn_145 : decode cX11_goOn 145 = .ok (.aload_n 0, 1) := by decide +kernel
theorem dX11_goOn_146 : decode cX11_goOn 146 = .ok (.lload 4, 2) := by decide +kernel
theorem dX11_goOn_148 : decode cX11_goOn 148 = .ok (.invokevirtual 721, 3) := by decide +kernel
theorem dX11_goOn_151 : decode cX11_goOn 151 = .ok (.aload_n 0, 1) := by decide +kernel
theorem dX11_goOn_152 : decode cX11_goOn 152 = .ok (.iconst 3, 1) := by decide +kernel
theorem dX11_goOn_153 : decode cX11_goOn 153 = .ok (.iload_n 2, 1) := by decide +kernel
theorem dX11_goOn_154 : decode cX11_goOn 154 = .ok (.iconst 0, 1) := by decide +kernel
theorem dX11_goOn_155 : decode cX11_goOn 155 = .ok (.invokevirtual 685, 3) := by decide +kernel
theorem dX11_goOn_158 : decode cX11_goOn 158 = .ok (.aload_n 0, 1) := by decide +kernel
theorem dX11_goOn_159 : decode cX11_goOn 159 = .ok (.aload_n 0, 1) := by decide +kernel
theorem dX11_goOn_160 : decode cX11_goOn 160 = .ok (.iload_n 2, 1) := by decide +kernel
theorem dX11_goOn_161 : decode cX11_goOn 161 = .ok (.iconst 1, 1) := by decide +kernel
theorem dX11_goOn_162 : decode cX11_goOn 162 = .ok (.invokevirtual 545, 3) := by decide +kernel
theorem dX11_goOn_165 : decode cX11_goOn 165 = .ok (.invokevirtual 697, 3) := by decide +kernel
theorem dX11_goOn_168 : decode cX11_goOn 168 = .ok (.goto 102, 3) := by decide +kernel
theorem dX11_goOn_171 : decode cX11_goOn 171 = .ok (.aload_n 0, 1) := by decide +kernel
theorem dX11_goOn_172 : decode cX11_goOn 172 = .ok (.dup, 1) := by decide +kernel
theorem dX11_goOn_173 : decode cX11_goOn 173 = .ok (.getfield 724, 3) := by decide +kernel
theorem dX11_goOn_176 : decode cX11_goOn 176 = .ok (.iconst 1, 1) := by decide +kernel
theorem dX11_goOn_177 : decode cX11_goOn 177 = .ok (.isub, 1) := by decide +kernel
theorem dX11_goOn_178 : decode cX11_goOn 178 = .ok (.putfield 724, 3) := by decide +kernel
theorem dX11_goOn_181 : decode cX11_goOn 181 = .ok (.aload_n 0, 1) := by decide +kernel
theorem dX11_goOn_182 : decode cX11_goOn 182 = .ok (.aload_n 0, 1) := by decide +kernel
theorem dX11_goOn_183 : decode cX11_goOn 183 = .ok (.getfield 122, 3) := by decide +kernel
theorem dX11_goOn_186 : decode cX11_goOn 186 = .ok (.iload_n 2, 1) := by decide +kernel
theorem dX11_goOn_187 : decode cX11_goOn 187 = .ok (.iaload, 1) := by decide +kernel
theorem dX11_goOn_188 : decode cX11_goOn 188 = .ok (.aload_n 0, 1) := by decide +kernel
theorem dX11_goOn_189 : decode cX11_goOn 189 = .ok (.getfield 229, 3) := by decide +kernel
theorem dX11_goOn_192 : decode cX11_goOn 192 = .ok (.aload_n 0, 1) := by decide +kernel
theorem dX11_goOn_193 : decode cX11_goOn 193 = .ok (.getfield 724, 3) := by decide +kernel
theorem dX11_goOn_196 : decode cX11_goOn 196 = .ok (.laload, 1) := by decide +kernel
theorem dX11_goOn_197 : decode cX11_goOn 197 = .ok (.lload 4, 2) := by decide +kernel
theorem dX11_goOn_199 : decode cX11_goOn 199 = .ok (.invokevirtual 743, 3) := by decide +kernel
theorem dX11_goOn_202 : decode cX11_goOn 202 = .ok (.goto 68, 3) := by decide +kernel
theorem dX11_goOn_205 : decode cX11_goOn 205 = .ok (.aload_n 0, 1) := by decide +kernel
theorem dX11_goOn_206 : decode cX11_goOn 206 = .ok (.iload_n 2, 1) := by decide +kernel
theorem dX11_goOn_207 : decode cX11_goOn 207 = .ok (.lload 4, 2) := by decide +kernel
theorem dX11_goOn_209 : decode cX11_goOn 209 = .ok (.invokevirtual 747, 3) := by decide +kernel
theorem dX11_goOn_212 : decode cX11_goOn 212 = .ok (.goto 58, 3) := by decide +kernel
theorem dX11_goOn_215 : decode cX11_goOn 215 = .ok (.aload_n 0, 1) := by decide +kernel
theorem dX11_goOn_216 : decode cX11_goOn 216 = .ok (.getfield 233, 3) := by decide +kernel
theorem dX11_goOn_219 : decode cX11_goOn 219 = .ok (.aload_n 0, 1) := by decide +kernel
theorem dX11_goOn_220 : decode cX11_goOn 220 = .ok (.getfield 614, 3) := by decide +kernel
theorem dX11_goOn_223 : decode cX11_goOn 223 = .ok (.aload_n 0, 1) := by decide +kernel
theorem dX11_goOn_224 : decode cX11_goOn 224 = .ok (.getfield 131, 3) := by decide +kernel
theorem dX11_goOn_227 : decode cX11_goOn 227 = .ok (.iload_n 2, 1) := by decide +kernel
theorem dX11_goOn_228 : decode cX11_goOn 228 = .ok (.iaload, 1) := by decide +kernel
theorem dX11_goOn_229 : decode cX11_goOn 229 = .ok (.iadd, 1) := by decide +kernel
theorem dX11_goOn_230 : decode cX11_goOn 230 = .ok (.lload 4, 2) := by decide +kernel
theorem dX11_goOn_232 : decode cX11_goOn 232 = .ok (.lastore, 1) := by decide +kernel
theorem dX11_goOn_233 : decode cX11_goOn 233 = .ok (.aload_n 0, 1) := by decide +kernel
theorem dX11_goOn_234 : decode cX11_goOn 234 = .ok (.aload_n 0, 1) := by decide +kernel
theorem dX11_goOn_235 : decode cX11_goOn 235 = .ok (.iload_n 2, 1) := by decide +kernel
theorem dX11_goOn_236 : decode cX11_goOn 236 = .ok (.iconst 1, 1) := by decide +kernel
theorem dX11_goOn_237 : decode cX11_goOn 237 = .ok (.invokevirtual 545, 3) := by decide +kernel
theorem dX11_goOn_240 : decode cX11_goOn 240 = .ok (.invokevirtual 697, 3) := by decide +kernel
theorem dX11_goOn_243 : decode cX11_goOn 243 = .ok (.goto 27, 3) := by decide +kernel
theorem dX11_goOn_246 : decode cX11_goOn 246 = .ok (.aload_n 0, 1) := by decide +kernel
theorem dX11_goOn_247 : decode cX11_goOn 247 = .ok (.lload 4, 2) := by decide +kernel
theorem dX11_goOn_249 : decode cX11_goOn 249 = .ok (.invokevirtual 721, 3) := by decide +kernel
theorem dX11_goOn_252 : decode cX11_goOn 252 = .ok (.aload_n 0, 1) := by decide +kernel
theorem dX11_goOn_253 : decode cX11_goOn 253 = .ok (.iload_n 2, 1) := by decide +kernel
theorem dX11_goOn_254 : decode cX11_goOn 254 = .ok (.iload_n 3, 1) := by decide +kernel
theorem dX11_goOn_255 : decode cX11_goOn 255 = .ok (.iconst 1, 1) := by decide +kernel
theorem dX11_goOn_256 : decode cX11_goOn 256 = .ok (.iadd, 1) := by decide +kernel
theorem dX11_goOn_257 : decode cX11_goOn 257 = .ok (.invokevirtual 718, 3) := by decide +kernel
theorem dX11_goOn_260 : decode cX11_goOn 260 = .ok (.goto 10, 3) := by decide +kernel
theorem dX11_goOn_263 : decode cX11_goOn 263 = .ok (.aload_n 0, 1) := by decide +kernel
theorem dX11_goOn_264 : decode cX11_goOn 264 = .ok (.lload 4, 2) := by decide +kernel
theorem dX11_goOn_266 : decode cX11_goOn 266 = .ok (.iload_n 3, 1) := by decide +kernel
theorem dX11_goOn_267 : decode cX11_goOn 267 = .ok (.invokevirtual 750, 3) := by decide +kernel
theorem dX11_goOn_270 : decode cX11_goOn 270 = .ok (.return_, 1) := by decide +kernel
theorem mw_X11_goOn : MW yX11_goOn (Cond.code yX11_goOn cX11_goOn 6 (Option.none : Option Jvm.ClassFile.FieldType)) cX11_goOn 6 (Option.none : Option Jvm.ClassFile.FieldType) 0 := ⟨rfl, ⟨(lw_all_tbl q3279), rfl, (lw_all_tbl q173)⟩, rfl, ⟨by decide, by decide⟩, by decide +kernel⟩
noncomputable def t_goOn : Mo TS Int :=
  bnd (gs 116) fun v1 =>
  bnd (ss 116 (w32 (v1 - 1))) fun _ =>
  bnd (gs 116) fun v2 =>
  bnd (rd 117 202000 v2) fun v3 =>
  bnd (gs 116) fun v4 =>
  bnd (rd 117 202000 v4) fun v5 =>
  bnd (gs 116) fun v6 =>
  bnd (rd 119 202000 v6) fun v7 =>
  bnd (gs 127) fun v8 =>
  if (ishr v3 16) = 0 then
    bnd (wr 92 4100 v7 4) fun _ =>
    bnd (wr 94 4100 v7 v8) fun _ =>
    bnd (gs 108) fun v10 =>
    bnd (ss 108 (w32 (v10 + 1))) fun _ =>
    pr 0
  else
    if (ishr v3 16) = 1 then
      bnd (gs 116) fun v12 =>
      bnd (rd 118 202000 v12) fun v13 =>
      bnd (ss 122 v13) fun _ =>
      bnd (ss 123 v7) fun _ =>
      pr 0
    else
      if (ishr v3 16) = 2 then
        bnd (t_push v8) fun _ =>
        bnd (t_waits 3 (iand v5 65535) 0) fun _ =>
        bnd (t_child (iand v5 65535) 1) fun v15 =>
        bnd (t_evaluate v15) fun _ =>
        pr 0
      else
        if (ishr v3 16) = 3 then
          bnd (gs 120) fun v17 =>
          bnd (ss 120 (w32 (v17 - 1))) fun _ =>
          bnd (rd 65 7000 (iand v5 65535)) fun v18 =>
          bnd (gs 120) fun v19 =>
          bnd (rd 121 580000 v19) fun v20 =>
          bnd (t_reckon v18 v20 v8) fun _ =>
          pr 0
        else
          if (ishr v3 16) = 4 then
            bnd (t_choose (iand v5 65535) v8) fun _ =>
            pr 0
          else
            if (ishr v3 16) = 5 then
              bnd (gs 122) fun v23 =>
              bnd (rd 68 7000 (iand v5 65535)) fun v24 =>
              bnd (wr 124 193000 (w32 (v23 + v24)) v8) fun _ =>
              bnd (t_child (iand v5 65535) 1) fun v25 =>
              bnd (t_evaluate v25) fun _ =>
              pr 0
            else
              if (ishr v3 16) = 6 then
                bnd (t_push v8) fun _ =>
                bnd (t_arguments (iand v5 65535) (w32 (v7 + 1))) fun _ =>
                pr 0
              else
                bnd (t_apply v8 v7) fun _ =>
                pr 0
theorem st_goOn (g : gC) (d : Nat) (h : CH) (hT : HT h) : SF g yX11_goOn (Cond.code yX11_goOn cX11_goOn 6 (Option.none : Option Jvm.ClassFile.FieldType)) (Option.none : Option Jvm.ClassFile.FieldType) (d + 6) [vA g 21] (fun t => (h, t)) (t_goOn) := by
  refine SF.of (lv := [(0, vA g 21)]) (by decide) (wt_A wt_0) rfl (by simp only [la_A, la_I, la_J, la_0]) (fun Γ hg hnm o => ?_)
  subst hg
  have o : Ok Γ "LazyForgeModel" cX11_goOn 6 (Option.none : Option Jvm.ClassFile.FieldType) (d + 6) := o
  unfold t_goOn
  refine s_aload_n o dX11_goOn_0 rfl 0 rfl ?_
  refine s_dup o dX11_goOn_1 (vA_cat (mg Γ) 21) ?_
  refine r_tgf vI rfl o hT tf_waiting tj_waiting (lw_all_tbl q2620) dX11_goOn_2 (fun v1 hv1 => ?_)
  refine s_iconst o dX11_goOn_5 ?_
  refine s_isub o dX11_goOn_6 ?_
  refine r_tpf vI rfl o hT tf_waiting tj_waiting (lw_all_tbl q2620) dX11_goOn_7 (w32_R _) ty_int ?_
  refine s_aload_n o dX11_goOn_10 rfl 0 rfl ?_
  refine s_tga (x := 89) o hT tf_waitKinds ta_waitKinds (lw_all_tbl q2621) dX11_goOn_11 ?_
  refine s_aload_n o dX11_goOn_14 rfl 0 rfl ?_
  refine r_tgf vI rfl o hT tf_waiting tj_waiting (lw_all_tbl q2620) dX11_goOn_15 (fun v2 hv2 => ?_)
  refine r_tiald o hT tr_waitKinds hv2 dX11_goOn_18 (fun v3 hv3 => ?_)
  refine s_bipush o dX11_goOn_19 rfl ?_
  refine s_ishr o dX11_goOn_21 ?_
  refine r_istore_n o dX11_goOn_22 rfl rfl ⟨(Nat.ne_of_beq_eq_false rfl), (fun _ => (vA_cat (mg Γ) 21)), trivial⟩ ?_
  refine s_aload_n o dX11_goOn_23 rfl 1 rfl ?_
  refine s_tga (x := 89) o hT tf_waitKinds ta_waitKinds (lw_all_tbl q2621) dX11_goOn_24 ?_
  refine s_aload_n o dX11_goOn_27 rfl 1 rfl ?_
  refine r_tgf vI rfl o hT tf_waiting tj_waiting (lw_all_tbl q2620) dX11_goOn_28 (fun v4 hv4 => ?_)
  refine r_tiald o hT tr_waitKinds hv4 dX11_goOn_31 (fun v5 hv5 => ?_)
  refine s_ldcw (n := 65535) o dX11_goOn_32 (lw_all_tbl q3280) rfl ?_
  refine s_iand o dX11_goOn_35 ?_
  refine r_istore_n o dX11_goOn_36 rfl rfl ⟨(Nat.ne_of_beq_eq_false rfl), (fun _ => rfl), ⟨(Nat.ne_of_beq_eq_false rfl), (fun _ => (vA_cat (mg Γ) 21)), trivial⟩⟩ ?_
  refine s_aload_n o dX11_goOn_37 rfl 2 rfl ?_
  refine s_tga (x := 91) o hT tf_waitMore ta_waitMore (lw_all_tbl q2623) dX11_goOn_38 ?_
  refine s_aload_n o dX11_goOn_41 rfl 2 rfl ?_
  refine r_tgf vI rfl o hT tf_waiting tj_waiting (lw_all_tbl q2620) dX11_goOn_42 (fun v6 hv6 => ?_)
  refine r_tiald o hT tr_waitMore hv6 dX11_goOn_45 (fun v7 hv7 => ?_)
  refine r_istore_n o dX11_goOn_46 rfl rfl ⟨(Nat.ne_of_beq_eq_false rfl), (fun _ => rfl), ⟨(Nat.ne_of_beq_eq_false rfl), (fun _ => rfl), ⟨(Nat.ne_of_beq_eq_false rfl), (fun _ => (vA_cat (mg Γ) 21)), trivial⟩⟩⟩ ?_
  refine s_aload_n o dX11_goOn_47 rfl 3 rfl ?_
  refine r_tgf vJ rfl o hT tf_result tj_result (lw_all_tbl q2631) dX11_goOn_48 (fun v8 hv8 => ?_)
  refine r_lstore o dX11_goOn_51 rfl ⟨(Nat.ne_of_beq_eq_false rfl), (Nat.ne_of_beq_eq_false rfl), (fun _ => rfl), ⟨(Nat.ne_of_beq_eq_false rfl), (Nat.ne_of_beq_eq_false rfl), (fun _ => rfl), ⟨(Nat.ne_of_beq_eq_false rfl), (Nat.ne_of_beq_eq_false rfl), (fun _ => rfl), ⟨(Nat.ne_of_beq_eq_false rfl), (Nat.ne_of_beq_eq_false rfl), (fun _ => (vA_cat (mg Γ) 21)), trivial⟩⟩⟩⟩ ?_
  refine s_iload_n o dX11_goOn_53 rfl 3 rfl ?_
  refine s_case (P := True) (fun e8 => ?_) (fun e8 => ?_)
  · refine s_tabE o e8 dX11_goOn_54 (r32 rfl) rfl rfl (tgt := 96) (by decide) ?_
    refine s_aload_n o dX11_goOn_96 rfl 4 rfl ?_
    refine s_tga (x := 81) o hT tf_cellSorts ta_cellSorts (lw_all_tbl q2596) dX11_goOn_97 ?_
    refine s_iload_n o dX11_goOn_100 rfl 1 rfl ?_
    refine s_iconst o dX11_goOn_101 ?_
    refine r_tiast o hT tr_cellSorts hv7 (r32 rfl) dX11_goOn_102 ?_
    refine s_aload_n o dX11_goOn_103 rfl 4 rfl ?_
    refine s_tga (x := 83) o hT tf_cellDone ta_cellDone (lw_all_tbl q2598) dX11_goOn_104 ?_
    refine s_iload_n o dX11_goOn_107 rfl 1 rfl ?_
    refine s_lload o dX11_goOn_108 0 rfl ?_
    refine r_tlast o hT tr_cellDone hv7 hv8 dX11_goOn_110 ?_
    refine s_aload_n o dX11_goOn_111 rfl 4 rfl ?_
    refine s_dup o dX11_goOn_112 (vA_cat (mg Γ) 21) ?_
    refine r_tgf vI rfl o hT tf_updates tj_updates (lw_all_tbl q2612) dX11_goOn_113 (fun v10 hv10 => ?_)
    refine s_iconst o dX11_goOn_116 ?_
    refine s_iadd o dX11_goOn_117 ?_
    refine r_tpf vI rfl o hT tf_updates tj_updates (lw_all_tbl q2612) dX11_goOn_118 (w32_R _) ty_int ?_
    refine s_goto (tgt := 270) o dX11_goOn_121 (by decide) ?_
    exact s_vret o rfl dX11_goOn_270 (fun _ hh => hh)
  · refine s_case (P := True) (fun e10 => ?_) (fun e10 => ?_)
    · refine s_tabE o e10 dX11_goOn_54 (r32 rfl) rfl rfl (tgt := 124) (by decide) ?_
      refine s_aload_n o dX11_goOn_124 rfl 4 rfl ?_
      refine s_aload_n o dX11_goOn_125 rfl 4 rfl ?_
      refine s_tga (x := 90) o hT tf_waitBases ta_waitBases (lw_all_tbl q2622) dX11_goOn_126 ?_
      refine s_aload_n o dX11_goOn_129 rfl 4 rfl ?_
      refine r_tgf vI rfl o hT tf_waiting tj_waiting (lw_all_tbl q2620) dX11_goOn_130 (fun v12 hv12 => ?_)
      refine r_tiald o hT tr_waitBases hv12 dX11_goOn_133 (fun v13 hv13 => ?_)
      refine r_tpf vI rfl o hT tf_base tj_base (lw_all_tbl q2626) dX11_goOn_134 hv13 ty_int ?_
      refine s_aload_n o dX11_goOn_137 rfl 4 rfl ?_
      refine s_iload_n o dX11_goOn_138 rfl 1 rfl ?_
      refine r_tpf vI rfl o hT tf_localTop tj_localTop (lw_all_tbl q2627) dX11_goOn_139 hv7 ty_int ?_
      refine s_goto (tgt := 270) o dX11_goOn_142 (by decide) ?_
      exact s_vret o rfl dX11_goOn_270 (fun _ hh => hh)
    · refine s_case (P := True) (fun e13 => ?_) (fun e13 => ?_)
      · refine s_tabE o e13 dX11_goOn_54 (r32 rfl) rfl rfl (tgt := 145) (by decide) ?_
        refine s_aload_n o dX11_goOn_145 rfl 4 rfl ?_
        refine s_lload o dX11_goOn_146 0 rfl ?_
        refine s_cv (d := d + 5) (C := "LazyForgeModel") (As := [vJ v8]) (st := []) o (st_push (mg Γ) (d + 5) h hT v8 hv8) mw_X11_push rfl (Or.inl (lw_all_tbl q3281)) (lw_all_tbl qs134) (lw_all_tbl q3283) (fun t => rc_t o hT t) wt_0 rfl dX11_goOn_148 rfl (rs := fun _ => []) (fun _ => rfl) (fun _ _ => ?_)
        refine s_aload_n o dX11_goOn_151 rfl 4 rfl ?_
        refine s_iconst o dX11_goOn_152 ?_
        refine s_iload_n o dX11_goOn_153 rfl 2 rfl ?_
        refine s_iconst o dX11_goOn_154 ?_
        refine s_cv (d := d + 5) (C := "LazyForgeModel") (As := [vI 3, vI (iand v5 65535), vI 0]) (st := []) o (st_waits (mg Γ) (d + 5) h hT 3 (iand v5 65535) 0 (r32 rfl) (iand_R _ _) (r32 rfl)) mw_X11_waits rfl (Or.inl (lw_all_tbl q3264)) (lw_all_tbl qs130) (lw_all_tbl q3266) (fun t => rc_t o hT t) wt_0 rfl dX11_goOn_155 rfl (rs := fun _ => []) (fun _ => rfl) (fun _ _ => ?_)
        refine s_aload_n o dX11_goOn_158 rfl 4 rfl ?_
        refine s_aload_n o dX11_goOn_159 rfl 4 rfl ?_
        refine s_iload_n o dX11_goOn_160 rfl 2 rfl ?_
        refine s_iconst o dX11_goOn_161 ?_
        refine s_cv (d := d + 5) (C := "LazyForgeModel") (As := [vI (iand v5 65535), vI 1]) (st := [vA (mg Γ) 21]) o (st_child (mg Γ) (d + 5) h hT (iand v5 65535) 1 (iand_R _ _) (r32 rfl)) mw_X11_child rfl (Or.inl (lw_all_tbl q3189)) (lw_all_tbl qs115) (lw_all_tbl q3191) (fun t => rc_t o hT t) (wt_A wt_0) rfl dX11_goOn_162 rfl (rs := fun r => [vI r, vA (mg Γ) 21]) (fun _ => rfl) (fun v15 hv15 => ?_)
        refine s_cv (d := d + 5) (C := "LazyForgeModel") (As := [vI v15]) (st := []) o (st_evaluate (mg Γ) (d + 5) h hT v15 (hv15 _ rfl)) mw_X11_evaluate rfl (Or.inl (lw_all_tbl q3272)) (lw_all_tbl qs132) (lw_all_tbl q3274) (fun t => rc_t o hT t) wt_0 rfl dX11_goOn_165 rfl (rs := fun _ => []) (fun _ => rfl) (fun _ _ => ?_)
        refine s_goto (tgt := 270) o dX11_goOn_168 (by decide) ?_
        exact s_vret o rfl dX11_goOn_270 (fun _ hh => hh)
      · refine s_case (P := True) (fun e15 => ?_) (fun e15 => ?_)
        · refine s_tabE o e15 dX11_goOn_54 (r32 rfl) rfl rfl (tgt := 171) (by decide) ?_
          refine s_aload_n o dX11_goOn_171 rfl 4 rfl ?_
          refine s_dup o dX11_goOn_172 (vA_cat (mg Γ) 21) ?_
          refine r_tgf vI rfl o hT tf_top tj_top (lw_all_tbl q2624) dX11_goOn_173 (fun v17 hv17 => ?_)
          refine s_iconst o dX11_goOn_176 ?_
          refine s_isub o dX11_goOn_177 ?_
          refine r_tpf vI rfl o hT tf_top tj_top (lw_all_tbl q2624) dX11_goOn_178 (w32_R _) ty_int ?_
          refine s_aload_n o dX11_goOn_181 rfl 4 rfl ?_
          refine s_aload_n o dX11_goOn_182 rfl 4 rfl ?_
          refine s_tga (x := 59) o hT tf_liftValues ta_liftValues (lw_all_tbl q2569) dX11_goOn_183 ?_
          refine s_iload_n o dX11_goOn_186 rfl 2 rfl ?_
          refine r_tiald o hT tr_liftValues (iand_R _ _) dX11_goOn_187 (fun v18 hv18 => ?_)
          refine s_aload_n o dX11_goOn_188 rfl 4 rfl ?_
          refine s_tga (x := 92) o hT tf_stack ta_stack (lw_all_tbl q2625) dX11_goOn_189 ?_
          refine s_aload_n o dX11_goOn_192 rfl 4 rfl ?_
          refine r_tgf vI rfl o hT tf_top tj_top (lw_all_tbl q2624) dX11_goOn_193 (fun v19 hv19 => ?_)
          refine r_tlald o hT tr_stack hv19 dX11_goOn_196 (fun v20 hv20 => ?_)
          refine s_lload o dX11_goOn_197 0 rfl ?_
          refine s_cv (d := d + 5) (C := "LazyForgeModel") (As := [vI v18, vJ v20, vJ v8]) (st := []) o (st_reckon (mg Γ) (d + 4) h hT v18 v20 v8 hv18 hv20 hv8) mw_X11_reckon rfl (Or.inl (lw_all_tbl q3285)) (lw_all_tbl qs135) (lw_all_tbl q3287) (fun t => rc_t o hT t) wt_0 rfl dX11_goOn_199 rfl (rs := fun _ => []) (fun _ => rfl) (fun _ _ => ?_)
          refine s_goto (tgt := 270) o dX11_goOn_202 (by decide) ?_
          exact s_vret o rfl dX11_goOn_270 (fun _ hh => hh)
        · refine s_case (P := True) (fun e20 => ?_) (fun e20 => ?_)
          · refine s_tabE o e20 dX11_goOn_54 (r32 rfl) rfl rfl (tgt := 205) (by decide) ?_
            refine s_aload_n o dX11_goOn_205 rfl 4 rfl ?_
            refine s_iload_n o dX11_goOn_206 rfl 2 rfl ?_
            refine s_lload o dX11_goOn_207 0 rfl ?_
            refine s_cv (d := d + 5) (C := "LazyForgeModel") (As := [vI (iand v5 65535), vJ v8]) (st := []) o (st_choose (mg Γ) (d + 4) h hT (iand v5 65535) v8 (iand_R _ _) hv8) mw_X11_choose rfl (Or.inl (lw_all_tbl q3289)) (lw_all_tbl qs136) (lw_all_tbl q3291) (fun t => rc_t o hT t) wt_0 rfl dX11_goOn_209 rfl (rs := fun _ => []) (fun _ => rfl) (fun _ _ => ?_)
            refine s_goto (tgt := 270) o dX11_goOn_212 (by decide) ?_
            exact s_vret o rfl dX11_goOn_270 (fun _ hh => hh)
          · refine s_case (P := True) (fun e21 => ?_) (fun e21 => ?_)
            · refine s_tabE o e21 dX11_goOn_54 (r32 rfl) rfl rfl (tgt := 215) (by decide) ?_
              refine s_aload_n o dX11_goOn_215 rfl 4 rfl ?_
              refine s_tga (x := 93) o hT tf_locals ta_locals (lw_all_tbl q2628) dX11_goOn_216 ?_
              refine s_aload_n o dX11_goOn_219 rfl 4 rfl ?_
              refine r_tgf vI rfl o hT tf_base tj_base (lw_all_tbl q2626) dX11_goOn_220 (fun v23 hv23 => ?_)
              refine s_aload_n o dX11_goOn_223 rfl 4 rfl ?_
              refine s_tga (x := 62) o hT tf_liftVariables ta_liftVariables (lw_all_tbl q2572) dX11_goOn_224 ?_
              refine s_iload_n o dX11_goOn_227 rfl 2 rfl ?_
              refine r_tiald o hT tr_liftVariables (iand_R _ _) dX11_goOn_228 (fun v24 hv24 => ?_)
              refine s_iadd o dX11_goOn_229 ?_
              refine s_lload o dX11_goOn_230 0 rfl ?_
              refine r_tlast o hT tr_locals (w32_R _) hv8 dX11_goOn_232 ?_
              refine s_aload_n o dX11_goOn_233 rfl 4 rfl ?_
              refine s_aload_n o dX11_goOn_234 rfl 4 rfl ?_
              refine s_iload_n o dX11_goOn_235 rfl 2 rfl ?_
              refine s_iconst o dX11_goOn_236 ?_
              refine s_cv (d := d + 5) (C := "LazyForgeModel") (As := [vI (iand v5 65535), vI 1]) (st := [vA (mg Γ) 21]) o (st_child (mg Γ) (d + 5) h hT (iand v5 65535) 1 (iand_R _ _) (r32 rfl)) mw_X11_child rfl (Or.inl (lw_all_tbl q3189)) (lw_all_tbl qs115) (lw_all_tbl q3191) (fun t => rc_t o hT t) (wt_A wt_0) rfl dX11_goOn_237 rfl (rs := fun r => [vI r, vA (mg Γ) 21]) (fun _ => rfl) (fun v25 hv25 => ?_)
              refine s_cv (d := d + 5) (C := "LazyForgeModel") (As := [vI v25]) (st := []) o (st_evaluate (mg Γ) (d + 5) h hT v25 (hv25 _ rfl)) mw_X11_evaluate rfl (Or.inl (lw_all_tbl q3272)) (lw_all_tbl qs132) (lw_all_tbl q3274) (fun t => rc_t o hT t) wt_0 rfl dX11_goOn_240 rfl (rs := fun _ => []) (fun _ => rfl) (fun _ _ => ?_)
              refine s_goto (tgt := 270) o dX11_goOn_243 (by decide) ?_
              exact s_vret o rfl dX11_goOn_270 (fun _ hh => hh)
            · refine s_case (P := True) (fun e25 => ?_) (fun e25 => ?_)
              · refine s_tabE o e25 dX11_goOn_54 (r32 rfl) rfl rfl (tgt := 246) (by decide) ?_
                refine s_aload_n o dX11_goOn_246 rfl 4 rfl ?_
                refine s_lload o dX11_goOn_247 0 rfl ?_
                refine s_cv (d := d + 5) (C := "LazyForgeModel") (As := [vJ v8]) (st := []) o (st_push (mg Γ) (d + 5) h hT v8 hv8) mw_X11_push rfl (Or.inl (lw_all_tbl q3281)) (lw_all_tbl qs134) (lw_all_tbl q3283) (fun t => rc_t o hT t) wt_0 rfl dX11_goOn_249 rfl (rs := fun _ => []) (fun _ => rfl) (fun _ _ => ?_)
                refine s_aload_n o dX11_goOn_252 rfl 4 rfl ?_
                refine s_iload_n o dX11_goOn_253 rfl 2 rfl ?_
                refine s_iload_n o dX11_goOn_254 rfl 1 rfl ?_
                refine s_iconst o dX11_goOn_255 ?_
                refine s_iadd o dX11_goOn_256 ?_
                refine s_cv (d := d + 5) (C := "LazyForgeModel") (As := [vI (iand v5 65535), vI (w32 (v7 + 1))]) (st := []) o (st_arguments (mg Γ) d h hT (iand v5 65535) (w32 (v7 + 1)) (iand_R _ _) (w32_R _)) mw_X11_arguments rfl (Or.inl (lw_all_tbl q3293)) (lw_all_tbl qs137) (lw_all_tbl q3295) (fun t => rc_t o hT t) wt_0 rfl dX11_goOn_257 rfl (rs := fun _ => []) (fun _ => rfl) (fun _ _ => ?_)
                refine s_goto (tgt := 270) o dX11_goOn_260 (by decide) ?_
                exact s_vret o rfl dX11_goOn_270 (fun _ hh => hh)
              · refine s_tabOut o dX11_goOn_54 (ishr_R _ _) (by omega) (tgt := 263) (by decide) ?_
                refine s_aload_n o dX11_goOn_263 rfl 4 rfl ?_
                refine s_lload o dX11_goOn_264 0 rfl ?_
                refine s_iload_n o dX11_goOn_266 rfl 1 rfl ?_
                refine s_cv (d := d + 5) (C := "LazyForgeModel") (As := [vJ v8, vI v7]) (st := []) o (st_apply (mg Γ) (d + 2) h hT v8 v7 hv8 hv7) mw_X11_apply rfl (Or.inl (lw_all_tbl q3328)) (lw_all_tbl qs145) (lw_all_tbl q3330) (fun t => rc_t o hT t) wt_0 rfl dX11_goOn_267 rfl (rs := fun _ => []) (fun _ => rfl) (fun _ _ => ?_)
                exact s_vret o rfl dX11_goOn_270 (fun _ hh => hh)
theorem dX11_workApplication_0 : decode cX11_workApplication 0 = .ok (.aload_n 0, 1) := by decide +kernel
theorem dX11_workApplication_1 : decode cX11_workApplication 1 = .ok (.iload_n 1, 1) := by decide +kernel
theorem dX11_workApplication_2 : decode cX11_workApplication 2 = .ok (.iconst 0, 1) := by decide +kernel
theorem dX11_workApplication_3 : decode cX11_workApplication 3 = .ok (.invokevirtual 545, 3) := by decide +kernel
theorem dX11_workApplication_6 : decode cX11_workApplication 6 = .ok (.istore_n 2, 1) := by decide +kernel
theorem dX11_workApplication_7 : decode cX11_workApplication 7 = .ok (.aload_n 0, 1) := by decide +kernel
theorem dX11_workApplication_8 : decode cX11_workApplication 8 = .ok (.getfield 128, 3) := by decide +kernel
theorem dX11_workApplication_11 : decode cX11_workApplication 11 = .ok (.iload_n 1, 1) := by decide +kernel
theorem dX11_workApplication_12 : decode cX11_workApplication 12 = .ok (.iaload, 1) := by decide +kernel
theorem dX11_workApplication_13 : decode cX11_workApplication 13 = .ok (.iconst 1, 1) := by decide +kernel
theorem dX11_workApplication_14 : decode cX11_workApplication 14 = .ok (.isub, 1) := by decide +kernel
theorem dX11_workApplication_15 : decode cX11_workApplication 15 = .ok (.istore_n 3, 1) := by decide +kernel
theorem dX11_workApplication_16 : decode cX11_workApplication 16 = .ok (.aload_n 0, 1) := by decide +kernel
theorem dX11_workApplication_17 : decode cX11_workApplication 17 = .ok (.getfield 119, 3) := by decide +kernel
theorem dX11_workApplication_20 : decode cX11_workApplication 20 = .ok (.iload_n 2, 1) := by decide +kernel
theorem dX11_workApplication_21 : decode cX11_workApplication 21 = .ok (.iaload, 1) := by decide +kernel
theorem dX11_workApplication_22 : decode cX11_workApplication 22 = .ok (.bipush 12, 2) := by decide +kernel
theorem dX11_workApplication_24 : decode cX11_workApplication 24 = .ok (.if_icmp .ne 17, 3) := by decide +kernel
theorem dX11_workApplication_27 : decode cX11_workApplication 27 = .ok (.aload_n 0, 1) := by decide +kernel
theorem dX11_workApplication_28 : decode cX11_workApplication 28 = .ok (.getfield 171, 3) := by decide +kernel
theorem dX11_workApplication_31 : decode cX11_workApplication 31 = .ok (.aload_n 0, 1) := by decide +kernel
theorem dX11_workApplication_32 : decode cX11_workApplication 32 = .ok (.getfield 122, 3) := by decide +kernel
theorem dX11_workApplication_35 : decode cX11_workApplication 35 = .ok (.iload_n 2, 1) := by decide +kernel
theorem dX11_workApplication_36 : decode cX11_workApplication 36 = .ok (.iaload, 1) := by decide +kernel
theorem dX11_workApplication_37 : decode cX11_workApplication 37 = .ok (.iaload, 1) := by decide +kernel
theorem dX11_workApplication_38 : decode cX11_workApplication 38 = .ok (.goto 4, 3) := by decide +kernel
theorem dX11_workApplication_41 : decode cX11_workApplication 41 = .ok (.iconst 0, 1) := by decide +kernel
theorem dX11_workApplication_42 : decode cX11_workApplication 42 = .ok (.istore 4, 2) := by decide +kernel
theorem dX11_workApplication_44 : decode cX11_workApplication 44 = .ok (.aload_n 0, 1) := by decide +kernel
theorem dX11_workApplication_45 : decode cX11_workApplication 45 = .ok (.iload_n 1, 1) := by decide +kernel
theorem dX11_workApplication_46 : decode cX11_workApplication 46 = .ok (.invokevirtual 657, 3) := by decide +kernel
theorem dX11_workApplication_49 : decode cX11_workApplication 49 = .ok (.ifCond .eq 15, 3) := by decide +kernel
theorem dX11_workApplication_52 : decode cX11_workApplication 52 = .ok (.aload_n 0, 1) := by decide +kernel
theorem dX11_workApplication_53 : decode cX11_workApplication 53 = .ok (.aload_n 0, 1) := by decide +kernel
theorem dX11_workApplication_54 : decode cX11_workApplication 54 = .ok (.iload_n 1, 1) := by decide +kernel
theorem dX11_workApplication_55 : decode cX11_workApplication 55 = .ok (.invokevirtual 703, 3) := by decide +kernel
theorem dX11_workApplication_58 : decode cX11_workApplication 58 = .ok (.invokevirtual 691, 3) := by decide +kernel
theorem dX11_workApplication_61 : decode cX11_workApplication 61 = .ok (.goto 69, 3) := by decide +kernel
theorem dX11_workApplication_64 : decode cX11_workApplication 64 = .ok (.iload 4, 2) := by decide +kernel
theorem dX11_workApplication_66 : decode cX11_workApplication 66 = .ok (.ifCond .le 12, 3) := by decide +kernel
theorem dX11_workApplication_69 : decode cX11_workApplication 69 = .ok (.aload_n 0, 1) := by decide +kernel
theorem dX11_workApplication_70 : decode cX11_workApplication 70 = .ok (.iload_n 1, 1) := by decide +kernel
theorem dX11_workApplication_71 : decode cX11_workApplication 71 = .ok (.iconst 0, 1) := by decide +kernel
theorem dX11_workApplication_72 : decode cX11_workApplication 72 = .ok (.invokevirtual 718, 3) := by decide +kernel
theorem dX11_workApplication_75 : decode cX11_workApplication 75 = .ok (.goto 55, 3) := by decide +kernel
theorem dX11_workApplication_78 : decode cX11_workApplication 78 = .ok (.iconst 0, 1) := by decide +kernel
theorem dX11_workApplication_79 : decode cX11_workApplication 79 = .ok (.istore 5, 2) := by decide +kernel
theorem dX11_workApplication_81 : decode cX11_workApplication 81 = .ok (.iload 5, 2) := by decide +kernel
theorem dX11_workApplication_83 : decode cX11_workApplication 83 = .ok (.iload_n 3, 1) := by decide +kernel
theorem dX11_workApplication_84 : decode cX11_workApplication 84 = .ok (.if_icmp .ge 33, 3) := by decide +kernel
theorem dX11_workApplication_87 : decode cX11_workApplication 87 = .ok (.aload_n 0, 1) := by decide +kernel
theorem dX11_workApplication_88 : decode cX11_workApplication 88 = .ok (.getfield 605, 3) := by decide +kernel
theorem dX11_workApplication_91 : decode cX11_workApplication 91 = .ok (.ifCond .ne 26, 3) := by decide +kernel
theorem dX11_workApplication_94 : decode cX11_workApplication 94 = .ok (.aload_n 0, 1) := by decide +kernel
theorem dX11_workApplication_95 : decode cX11_workApplication 95 = .ok (.aload_n 0, 1) := by decide +kernel
theorem dX11_workApplication_96 : decode cX11_workApplication 96 = .ok (.aload_n 0, 1) := by decide +kernel
theorem dX11_workApplication_97 : decode cX11_workApplication 97 = .ok (.iload_n 1, 1) := by decide +kernel
theorem dX11_workApplication_98 : decode cX11_workApplication 98 = .ok (.iconst 1, 1) := by decide +kernel
theorem dX11_workApplication_99 : decode cX11_workApplication 99 = .ok (.iload 5, 2) := by decide +kernel
theorem dX11_workApplication_101 : decode cX11_workApplication 101 = .ok (.iadd, 1) := by decide +kernel
theorem dX11_workApplication_102 : decode cX11_workApplication 102 = .ok (.invokevirtual 545, 3) := by decide +kernel
theorem dX11_workApplication_105 : decode cX11_workApplication 105 = .ok (.invokevirtual 703, 3) := by decide +kernel
theorem dX11_workApplication_108 : decode cX11_workApplication 108 = .ok (.invokevirtual 721, 3) := by decide +kernel
theorem dX11_workApplication_111 : decode cX11_workApplication 111 = .ok (.iinc 5 1, 3) := by decide +kernel
theorem dX11_workApplication_114 : decode cX11_workApplication 114 = .ok (.goto (-33), 3) := by decide +kernel
theorem dX11_workApplication_117 : decode cX11_workApplication 117 = .ok (.aload_n 0, 1) := by decide +kernel
theorem dX11_workApplication_118 : decode cX11_workApplication 118 = .ok (.bipush 7, 2) := by decide +kernel
theorem dX11_workApplication_120 : decode cX11_workApplication 120 = .ok (.iconst 0, 1) := by decide +kernel
theorem dX11_workApplication_121 : decode cX11_workApplication 121 = .ok (.iload_n 3, 1) := by decide +kernel
theorem dX11_workApplication_122 : decode cX11_workApplication 122 = .ok (.invokevirtual 685, 3) := by decide +kernel
theorem dX11_workApplication_125 : decode cX11_workApplication 125 = .ok (.aload_n 0, 1) := by decide +kernel
theorem dX11_workApplication_126 : decode cX11_workApplication 126 = .ok (.iload_n 2, 1) := by decide +kernel
theorem dX11_workApplication_127 : decode cX11_workApplication 127 = .ok (.invokevirtual 697, 3) := by decide +kernel
theorem dX11_workApplication_130 : decode cX11_workApplication 130 = .ok (.return_, 1) := by decide +kernel
theorem mw_X11_workApplication : MW yX11_workApplication (Cond.code yX11_workApplication cX11_workApplication 6 (Option.none : Option Jvm.ClassFile.FieldType)) cX11_workApplication 6 (Option.none : Option Jvm.ClassFile.FieldType) 1 := ⟨rfl, ⟨(lw_all_tbl q3343), rfl, (lw_all_tbl q173)⟩, rfl, ⟨by decide, by decide⟩, by decide +kernel⟩
abbrev okt_workApplication_81 (x : Int × Int × Int × Int) : Prop := R32 x.1 ∧ R32 x.2.1 ∧ R32 x.2.2.1 ∧ R32 x.2.2.2
abbrev lvt_workApplication_81 (Γ : Gm) (x : Int × Int × Int × Int) : List (Nat × Value) := [(0, vA (mg Γ) 21), (1, vI x.1), (2, vI x.2.1), (3, vI x.2.2.1), (5, vI x.2.2.2)]
noncomputable def t_workApplication_81b {A : Type} (k_117 : Int → Int → Mo TS A) (l1 : Int) (l2 : Int) (l3 : Int) (l5 : Int) : Mo TS ((Int × Int × Int × Int) ⊕ A) :=
  if l3 ≤ l5 then
    lo (k_117 l2 l3)
  else
    bnd (gs 111) fun v1 =>
    if ¬ v1 = 0 then
      lo (k_117 l2 l3)
    else
      bnd (t_child l1 (w32 (1 + l5))) fun v2 =>
      bnd (t_keep v2) fun v3 =>
      bnd (t_push v3) fun _ =>
      pr (.inl (l1, l2, l3, (w32 (l5 + 1))))
theorem st_workApplication_81b {Γ : Gm} {h : CH} {d : Nat} (hT : HT h) (o : Ok Γ "LazyForgeModel" cX11_workApplication 6 (Option.none : Option Jvm.ClassFile.FieldType) (d + 6)) {A : Type} {K : A → TS → Prop} (k_117 : Int → Int → Mo TS A) (hk_117 : ∀ (l2 : Int) (l3 : Int), R32 l2 → R32 l3 → Sx Γ (fun t => (h, t)) K 117 [(0, vA (mg Γ) 21), (2, vI l2), (3, vI l3)] [] (k_117 l2 l3)) (l1 : Int) (l2 : Int) (l3 : Int) (l5 : Int) (hl1 : R32 l1) (hl2 : R32 l2) (hl3 : R32 l3) (hl5 : R32 l5) : Sx Γ (fun t => (h, t)) (KL Γ (fun t => (h, t)) okt_workApplication_81 K 81 (lvt_workApplication_81 Γ) []) 81 [(0, vA (mg Γ) 21), (1, vI l1), (2, vI l2), (3, vI l3), (5, vI l5)] [] (t_workApplication_81b k_117 l1 l2 l3 l5) := by
  unfold t_workApplication_81b
  refine s_iload o dX11_workApplication_81 4 rfl ?_
  refine s_iload_n o dX11_workApplication_83 rfl 3 rfl ?_
  refine s_icmp_ge (tgt := 117) o dX11_workApplication_84 (by decide) hl5 hl3 ?_ ?_
  · refine r_to [(0, vA (mg Γ) 21), (2, vI l2), (3, vI l3)] [0, 2, 3] rfl ?_
    exact s_lo (hk_117 l2 l3 hl2 hl3)
  · refine s_aload_n o dX11_workApplication_87 rfl 0 rfl ?_
    refine r_tgf vI rfl o hT tf_how tj_how (lw_all_tbl q2615) dX11_workApplication_88 (fun v1 hv1 => ?_)
    refine s_if_ne (tgt := 117) o dX11_workApplication_91 (by decide) hv1 ?_ ?_
    · refine r_to [(0, vA (mg Γ) 21), (2, vI l2), (3, vI l3)] [0, 2, 3] rfl ?_
      exact s_lo (hk_117 l2 l3 hl2 hl3)
    · refine s_aload_n o dX11_workApplication_94 rfl 0 rfl ?_
      refine s_aload_n o dX11_workApplication_95 rfl 0 rfl ?_
      refine s_aload_n o dX11_workApplication_96 rfl 0 rfl ?_
      refine s_iload_n o dX11_workApplication_97 rfl 1 rfl ?_
      refine s_iconst o dX11_workApplication_98 ?_
      refine s_iload o dX11_workApplication_99 4 rfl ?_
      refine s_iadd o dX11_workApplication_101 ?_
      refine s_cv (d := d + 5) (C := "LazyForgeModel") (As := [vI l1, vI (w32 (1 + l5))]) (st := [vA (mg Γ) 21, vA (mg Γ) 21]) o (st_child (mg Γ) (d + 5) h hT l1 (w32 (1 + l5)) hl1 (w32_R _)) mw_X11_child rfl (Or.inl (lw_all_tbl q3189)) (lw_all_tbl qs115) (lw_all_tbl q3191) (fun t => rc_t o hT t) (wt_A (wt_A wt_0)) rfl dX11_workApplication_102 rfl (rs := fun r => [vI r, vA (mg Γ) 21, vA (mg Γ) 21]) (fun _ => rfl) (fun v2 hv2 => ?_)
      refine s_cv (d := d + 5) (C := "LazyForgeModel") (As := [vI v2]) (st := [vA (mg Γ) 21]) o (st_keep (mg Γ) (d + 1) h hT v2 (hv2 _ rfl)) mw_X11_keep rfl (Or.inl (lw_all_tbl q3297)) (lw_all_tbl qs138) (lw_all_tbl q3299) (fun t => rc_t o hT t) (wt_A wt_0) rfl dX11_workApplication_105 rfl (rs := fun r => [vJ r, vA (mg Γ) 21]) (fun _ => rfl) (fun v3 hv3 => ?_)
      refine s_cv (d := d + 5) (C := "LazyForgeModel") (As := [vJ v3]) (st := []) o (st_push (mg Γ) (d + 5) h hT v3 (hv3 _ rfl)) mw_X11_push rfl (Or.inl (lw_all_tbl q3281)) (lw_all_tbl qs134) (lw_all_tbl q3283) (fun t => rc_t o hT t) wt_0 rfl dX11_workApplication_108 rfl (rs := fun _ => []) (fun _ => rfl) (fun _ _ => ?_)
      refine r_iinc (j := 4) o dX11_workApplication_111 rfl rfl [(0, vA (mg Γ) 21), (1, vI l1), (2, vI l2), (3, vI l3)] [0, 1, 2, 3] rfl ⟨(Nat.ne_of_beq_eq_false rfl), (fun _ => (vA_cat (mg Γ) 21)), ⟨(Nat.ne_of_beq_eq_false rfl), (fun _ => rfl), ⟨(Nat.ne_of_beq_eq_false rfl), (fun _ => rfl), ⟨(Nat.ne_of_beq_eq_false rfl), (fun _ => rfl), trivial⟩⟩⟩⟩ ?_
      refine s_goto (tgt := 81) o dX11_workApplication_114 (by decide) ?_
      refine r_to [(0, vA (mg Γ) 21), (1, vI l1), (2, vI l2), (3, vI l3), (5, vI (w32 (l5 + 1)))] [1, 2, 3, 4, 0] rfl ?_
      exact s_back (⟨hl1, hl2, hl3, (w32_R _)⟩) rfl
noncomputable def t_workApplication_81 {A : Type} (k_117 : Int → Int → Mo TS A) (l1 : Int) (l2 : Int) (l3 : Int) (l5 : Int) : Mo TS A := Loop (fun x => t_workApplication_81b k_117 x.1 x.2.1 x.2.2.1 x.2.2.2) (l1, l2, l3, l5)
theorem st_workApplication_81 {Γ : Gm} {h : CH} {d : Nat} (hT : HT h) (o : Ok Γ "LazyForgeModel" cX11_workApplication 6 (Option.none : Option Jvm.ClassFile.FieldType) (d + 6)) {A : Type} {K : A → TS → Prop} (k_117 : Int → Int → Mo TS A) (hk_117 : ∀ (l2 : Int) (l3 : Int), R32 l2 → R32 l3 → Sx Γ (fun t => (h, t)) K 117 [(0, vA (mg Γ) 21), (2, vI l2), (3, vI l3)] [] (k_117 l2 l3)) (l1 : Int) (l2 : Int) (l3 : Int) (l5 : Int) (hl1 : R32 l1) (hl2 : R32 l2) (hl3 : R32 l3) (hl5 : R32 l5) : Sx Γ (fun t => (h, t)) K 81 [(0, vA (mg Γ) 21), (1, vI l1), (2, vI l2), (3, vI l3), (5, vI l5)] [] (t_workApplication_81 k_117 l1 l2 l3 l5) :=
  s_loop okt_workApplication_81 (lvt_workApplication_81 Γ) (fun x hx => st_workApplication_81b hT o k_117 hk_117 x.1 x.2.1 x.2.2.1 x.2.2.2 hx.1 hx.2.1 hx.2.2.1 hx.2.2.2) (x := (l1, l2, l3, l5)) ⟨hl1, hl2, hl3, hl5⟩
noncomputable def t_workApplication_42  (l1 : Int) (l2 : Int) (l3 : Int) (k0 : Int) : Mo TS Int :=
  bnd (t_isLess l1) fun v1 =>
  if v1 = 0 then
    if k0 ≤ 0 then
      t_workApplication_81
        (fun v2 v3 => bnd (t_waits 7 0 v3) fun _ =>
      bnd (t_evaluate v2) fun _ =>
      pr 0) l1 l2 l3 0
    else
      bnd (t_arguments l1 0) fun _ =>
      pr 0
  else
    bnd (t_keep l1) fun v4 =>
    bnd (t_gives v4) fun _ =>
    pr 0
theorem st_workApplication_42 {Γ : Gm} {h : CH} {d : Nat} (hT : HT h) (o : Ok Γ "LazyForgeModel" cX11_workApplication 6 (Option.none : Option Jvm.ClassFile.FieldType) (d + 6))   (l1 : Int) (l2 : Int) (l3 : Int) (k0 : Int) (hl1 : R32 l1) (hl2 : R32 l2) (hl3 : R32 l3) (hk0 : R32 k0) : Sx Γ (fun t => (h, t)) (fun a s => mt Γ = (0, a, ((h, s) : Wd))) 42 [(0, vA (mg Γ) 21), (1, vI l1), (2, vI l2), (3, vI l3)] [vI k0] (t_workApplication_42 l1 l2 l3 k0) := by
  unfold t_workApplication_42
  refine r_istore o dX11_workApplication_42 rfl ⟨(Nat.ne_of_beq_eq_false rfl), (fun _ => (vA_cat (mg Γ) 21)), ⟨(Nat.ne_of_beq_eq_false rfl), (fun _ => rfl), ⟨(Nat.ne_of_beq_eq_false rfl), (fun _ => rfl), ⟨(Nat.ne_of_beq_eq_false rfl), (fun _ => rfl), trivial⟩⟩⟩⟩ ?_
  refine s_aload_n o dX11_workApplication_44 rfl 1 rfl ?_
  refine s_iload_n o dX11_workApplication_45 rfl 2 rfl ?_
  refine s_cv (d := d + 5) (C := "LazyForgeModel") (As := [vI l1]) (st := []) o (st_isLess (mg Γ) (d + 4) h hT l1 hl1) mw_X11_isLess rfl (Or.inl (lw_all_tbl q3309)) (lw_all_tbl qs141) (lw_all_tbl q3311) (fun t => rc_t o hT t) wt_0 rfl dX11_workApplication_46 rfl (rs := fun r => [vI r]) (fun _ => rfl) (fun v1 hv1 => ?_)
  refine s_if_eq (tgt := 64) o dX11_workApplication_49 (by decide) (rZ (hv1 _ rfl)) ?_ ?_
  · refine s_iload o dX11_workApplication_64 0 rfl ?_
    refine s_if_le (tgt := 78) o dX11_workApplication_66 (by decide) hk0 ?_ ?_
    · refine s_iconst o dX11_workApplication_78 ?_
      refine r_istore o dX11_workApplication_79 rfl ⟨(Nat.ne_of_beq_eq_false rfl), (fun _ => rfl), ⟨(Nat.ne_of_beq_eq_false rfl), (fun _ => (vA_cat (mg Γ) 21)), ⟨(Nat.ne_of_beq_eq_false rfl), (fun _ => rfl), ⟨(Nat.ne_of_beq_eq_false rfl), (fun _ => rfl), ⟨(Nat.ne_of_beq_eq_false rfl), (fun _ => rfl), trivial⟩⟩⟩⟩⟩ ?_
      refine r_to [(0, vA (mg Γ) 21), (1, vI l1), (2, vI l2), (3, vI l3), (5, vI 0)] [2, 3, 4, 5, 0] rfl ?_
      refine st_workApplication_81 hT o _ ?_ l1 l2 l3 0 hl1 hl2 hl3 (r32 rfl)
      · intro v2 v3 hv2 hv3
        refine s_aload_n o dX11_workApplication_117 rfl 0 rfl ?_
        refine s_bipush o dX11_workApplication_118 rfl ?_
        refine s_iconst o dX11_workApplication_120 ?_
        refine s_iload_n o dX11_workApplication_121 rfl 2 rfl ?_
        refine s_cv (d := d + 5) (C := "LazyForgeModel") (As := [vI 7, vI 0, vI v3]) (st := []) o (st_waits (mg Γ) (d + 5) h hT 7 0 v3 (r32 rfl) (r32 rfl) hv3) mw_X11_waits rfl (Or.inl (lw_all_tbl q3264)) (lw_all_tbl qs130) (lw_all_tbl q3266) (fun t => rc_t o hT t) wt_0 rfl dX11_workApplication_122 rfl (rs := fun _ => []) (fun _ => rfl) (fun _ _ => ?_)
        refine s_aload_n o dX11_workApplication_125 rfl 0 rfl ?_
        refine s_iload_n o dX11_workApplication_126 rfl 1 rfl ?_
        refine s_cv (d := d + 5) (C := "LazyForgeModel") (As := [vI v2]) (st := []) o (st_evaluate (mg Γ) (d + 5) h hT v2 hv2) mw_X11_evaluate rfl (Or.inl (lw_all_tbl q3272)) (lw_all_tbl qs132) (lw_all_tbl q3274) (fun t => rc_t o hT t) wt_0 rfl dX11_workApplication_127 rfl (rs := fun _ => []) (fun _ => rfl) (fun _ _ => ?_)
        exact s_vret o rfl dX11_workApplication_130 (fun _ hh => hh)
    · refine s_aload_n o dX11_workApplication_69 rfl 1 rfl ?_
      refine s_iload_n o dX11_workApplication_70 rfl 2 rfl ?_
      refine s_iconst o dX11_workApplication_71 ?_
      refine s_cv (d := d + 5) (C := "LazyForgeModel") (As := [vI l1, vI 0]) (st := []) o (st_arguments (mg Γ) d h hT l1 0 hl1 (r32 rfl)) mw_X11_arguments rfl (Or.inl (lw_all_tbl q3293)) (lw_all_tbl qs137) (lw_all_tbl q3295) (fun t => rc_t o hT t) wt_0 rfl dX11_workApplication_72 rfl (rs := fun _ => []) (fun _ => rfl) (fun _ _ => ?_)
      refine s_goto (tgt := 130) o dX11_workApplication_75 (by decide) ?_
      exact s_vret o rfl dX11_workApplication_130 (fun _ hh => hh)
  · refine s_aload_n o dX11_workApplication_52 rfl 1 rfl ?_
    refine s_aload_n o dX11_workApplication_53 rfl 1 rfl ?_
    refine s_iload_n o dX11_workApplication_54 rfl 2 rfl ?_
    refine s_cv (d := d + 5) (C := "LazyForgeModel") (As := [vI l1]) (st := [vA (mg Γ) 21]) o (st_keep (mg Γ) (d + 1) h hT l1 hl1) mw_X11_keep rfl (Or.inl (lw_all_tbl q3297)) (lw_all_tbl qs138) (lw_all_tbl q3299) (fun t => rc_t o hT t) (wt_A wt_0) rfl dX11_workApplication_55 rfl (rs := fun r => [vJ r, vA (mg Γ) 21]) (fun _ => rfl) (fun v4 hv4 => ?_)
    refine s_cv (d := d + 5) (C := "LazyForgeModel") (As := [vJ v4]) (st := []) o (st_gives (mg Γ) (d + 5) h hT v4 (hv4 _ rfl)) mw_X11_gives rfl (Or.inl (lw_all_tbl q3257)) (lw_all_tbl qs129) (lw_all_tbl q3259) (fun t => rc_t o hT t) wt_0 rfl dX11_workApplication_58 rfl (rs := fun _ => []) (fun _ => rfl) (fun _ _ => ?_)
    refine s_goto (tgt := 130) o dX11_workApplication_61 (by decide) ?_
    exact s_vret o rfl dX11_workApplication_130 (fun _ hh => hh)
noncomputable def t_workApplication (l1 : Int) : Mo TS Int :=
  bnd (t_child l1 0) fun v1 =>
  bnd (rd 67 7000 l1) fun v2 =>
  bnd (rd 64 7000 v1) fun v3 =>
  if ¬ v3 = 12 then
    t_workApplication_42 l1 v1 (w32 (v2 - 1)) 0
  else
    bnd (rd 65 7000 v1) fun v4 =>
    bnd (rd 82 640 v4) fun v5 =>
    t_workApplication_42 l1 v1 (w32 (v2 - 1)) v5
theorem st_workApplication (g : gC) (d : Nat) (h : CH) (hT : HT h) (l1 : Int) (hl1 : R32 l1) : SF g yX11_workApplication (Cond.code yX11_workApplication cX11_workApplication 6 (Option.none : Option Jvm.ClassFile.FieldType)) (Option.none : Option Jvm.ClassFile.FieldType) (d + 6) [vA g 21, vI l1] (fun t => (h, t)) (t_workApplication l1) := by
  refine SF.of (lv := [(0, vA g 21), (1, vI l1)]) (by decide) (wt_A (wt_I wt_0)) rfl (by simp only [la_A, la_I, la_J, la_0]) (fun Γ hg hnm o => ?_)
  subst hg
  have o : Ok Γ "LazyForgeModel" cX11_workApplication 6 (Option.none : Option Jvm.ClassFile.FieldType) (d + 6) := o
  unfold t_workApplication
  refine s_aload_n o dX11_workApplication_0 rfl 0 rfl ?_
  refine s_iload_n o dX11_workApplication_1 rfl 1 rfl ?_
  refine s_iconst o dX11_workApplication_2 ?_
  refine s_cv (d := d + 5) (C := "LazyForgeModel") (As := [vI l1, vI 0]) (st := []) o (st_child (mg Γ) (d + 5) h hT l1 0 hl1 (r32 rfl)) mw_X11_child rfl (Or.inl (lw_all_tbl q3189)) (lw_all_tbl qs115) (lw_all_tbl q3191) (fun t => rc_t o hT t) wt_0 rfl dX11_workApplication_3 rfl (rs := fun r => [vI r]) (fun _ => rfl) (fun v1 hv1 => ?_)
  refine r_istore_n o dX11_workApplication_6 rfl rfl ⟨(Nat.ne_of_beq_eq_false rfl), (fun _ => (vA_cat (mg Γ) 21)), ⟨(Nat.ne_of_beq_eq_false rfl), (fun _ => rfl), trivial⟩⟩ ?_
  refine s_aload_n o dX11_workApplication_7 rfl 1 rfl ?_
  refine s_tga (x := 61) o hT tf_liftCounts ta_liftCounts (lw_all_tbl q2571) dX11_workApplication_8 ?_
  refine s_iload_n o dX11_workApplication_11 rfl 2 rfl ?_
  refine r_tiald o hT tr_liftCounts hl1 dX11_workApplication_12 (fun v2 hv2 => ?_)
  refine s_iconst o dX11_workApplication_13 ?_
  refine s_isub o dX11_workApplication_14 ?_
  refine r_istore_n o dX11_workApplication_15 rfl rfl ⟨(Nat.ne_of_beq_eq_false rfl), (fun _ => rfl), ⟨(Nat.ne_of_beq_eq_false rfl), (fun _ => (vA_cat (mg Γ) 21)), ⟨(Nat.ne_of_beq_eq_false rfl), (fun _ => rfl), trivial⟩⟩⟩ ?_
  refine s_aload_n o dX11_workApplication_16 rfl 2 rfl ?_
  refine s_tga (x := 58) o hT tf_liftKinds ta_liftKinds (lw_all_tbl q2568) dX11_workApplication_17 ?_
  refine s_iload_n o dX11_workApplication_20 rfl 1 rfl ?_
  refine r_tiald o hT tr_liftKinds (hv1 _ rfl) dX11_workApplication_21 (fun v3 hv3 => ?_)
  refine s_bipush o dX11_workApplication_22 rfl ?_
  refine s_icmp_ne (tgt := 41) o dX11_workApplication_24 (by decide) hv3 (r32 rfl) ?_ ?_
  · refine s_iconst o dX11_workApplication_41 ?_
    refine r_to [(0, vA (mg Γ) 21), (1, vI l1), (2, vI v1), (3, vI (w32 (v2 - 1)))] [2, 3, 1, 0] rfl ?_
    exact st_workApplication_42 hT o l1 v1 (w32 (v2 - 1)) 0 hl1 (hv1 _ rfl) (w32_R _) (r32 rfl)
  · refine s_aload_n o dX11_workApplication_27 rfl 2 rfl ?_
    refine s_tga (x := 75) o hT tf_parameterCounts ta_parameterCounts (lw_all_tbl q2586) dX11_workApplication_28 ?_
    refine s_aload_n o dX11_workApplication_31 rfl 2 rfl ?_
    refine s_tga (x := 59) o hT tf_liftValues ta_liftValues (lw_all_tbl q2569) dX11_workApplication_32 ?_
    refine s_iload_n o dX11_workApplication_35 rfl 1 rfl ?_
    refine r_tiald o hT tr_liftValues (hv1 _ rfl) dX11_workApplication_36 (fun v4 hv4 => ?_)
    refine r_tiald o hT tr_parameterCounts hv4 dX11_workApplication_37 (fun v5 hv5 => ?_)
    refine s_goto (tgt := 42) o dX11_workApplication_38 (by decide) ?_
    refine r_to [(0, vA (mg Γ) 21), (1, vI l1), (2, vI v1), (3, vI (w32 (v2 - 1)))] [2, 3, 1, 0] rfl ?_
    exact st_workApplication_42 hT o l1 v1 (w32 (v2 - 1)) v5 hl1 (hv1 _ rfl) (w32_R _) hv5
theorem dX11_write_0 : decode cX11_write 0 = .ok (.aload_n 0, 1) := by decide +kernel
theorem dX11_write_1 : decode cX11_write 1 = .ok (.aload_n 0, 1) := by decide +kernel
theorem dX11_write_2 : decode cX11_write 2 = .ok (.getfield 570, 3) := by decide +kernel
theorem dX11_write_5 : decode cX11_write 5 = .ok (.ifCond .eq 7, 3) := by decide +kernel
theorem dX11_write_8 : decode cX11_write 8 = .ok (.iconst 0, 1) := by decide +kernel
theorem dX11_write_9 : decode cX11_write 9 = .ok (.goto 4, 3) := by decide +kernel
theorem dX11_write_12 : decode cX11_write 12 = .ok (.iconst 1, 1) := by decide +kernel
theorem dX11_write_13 : decode cX11_write 13 = .ok (.putfield 251, 3) := by decide +kernel
theorem dX11_write_16 : decode cX11_write 16 = .ok (.aload_n 0, 1) := by decide +kernel
theorem dX11_write_17 : decode cX11_write 17 = .ok (.getfield 251, 3) := by decide +kernel
theorem dX11_write_20 : decode cX11_write 20 = .ok (.ifCond .le 5, 3) := by decide +kernel
theorem dX11_write_23 : decode cX11_write 23 = .ok (.iconst 0, 1) := by decide +kernel
theorem dX11_write_24 : decode cX11_write 24 = .ok (.ireturn, 1) := by decide +kernel
theorem dX11_write_25 : decode cX11_write 25 = .ok (.aload_n 0, 1) := by decide +kernel
theorem dX11_write_26 : decode cX11_write 26 = .ok (.iconst 0, 1) := by decide +kernel
theorem dX11_write_27 : decode cX11_write 27 = .ok (.putfield 780, 3) := by decide +kernel
theorem dX11_write_30 : decode cX11_write 30 = .ok (.iconst 2, 1) := by decide +kernel
theorem dX11_write_31 : decode cX11_write 31 = .ok (.istore_n 1, 1) := by decide +kernel
theorem dX11_write_32 : decode cX11_write 32 = .ok (.iload_n 1, 1) := by decide +kernel
theorem dX11_write_33 : decode cX11_write 33 = .ok (.aload_n 0, 1) := by decide +kernel
theorem dX11_write_34 : decode cX11_write 34 = .ok (.getfield 348, 3) := by decide +kernel
theorem dX11_write_37 : decode cX11_write 37 = .ok (.if_icmp .ge 71, 3) := by decide +kernel
theorem dX11_write_40 : decode cX11_write 40 = .ok (.aload_n 0, 1) := by decide +kernel
theorem dX11_write_41 : decode cX11_write 41 = .ok (.iload_n 1, 1) := by decide +kernel
theorem dX11_write_42 : decode cX11_write 42 = .ok (.iconst 2, 1) := by decide +kernel
theorem dX11_write_43 : decode cX11_write 43 = .ok (.if_icmp .ne 19, 3) := by decide +kernel
theorem dX11_write_46 : decode cX11_write 46 = .ok (.bipush 100, 2) := by decide +kernel
theorem dX11_write_48 : decode cX11_write 48 = .ok (.bipush 97, 2) := by decide +kernel
theorem dX11_write_50 : decode cX11_write 50 = .ok (.bipush 116, 2) := by decide +kernel
theorem dX11_write_52 : decode cX11_write 52 = .ok (.bipush 97, 2) := by decide +kernel
theorem dX11_write_54 : decode cX11_write 54 = .ok (.bipush 32, 2) := by decide +kernel
theorem dX11_write_56 : decode cX11_write 56 = .ok (.invokestatic 257, 3) := by decide +kernel
theorem dX11_write_59 : decode cX11_write 59 = .ok (.goto 14, 3) := by decide +kernel
theorem dX11_write_62 : decode cX11_write 62 = .ok (.bipush 32, 2) := by decide +kernel
theorem dX11_write_64 : decode cX11_write 64 = .ok (.bipush 124, 2) := by decide +kernel
theorem dX11_write_66 : decode cX11_write 66 = .ok (.bipush 32, 2) := by decide +kernel
theorem dX11_write_68 : decode cX11_write 68 = .ok (.iconst 0, 1) := by decide +kernel
theorem dX11_write_69 : decode cX11_write 69 = .ok (.iconst 0, 1) := by decide +kernel
theorem dX11_write_70 : decode cX11_write 70 = .ok (.invokestatic 257, 3) := by decide +kernel
theorem dX11_write_73 : decode cX11_write 73 = .ok (.invokevirtual 789, 3) := by decide +kernel
theorem dX11_write_76 : decode cX11_write 76 = .ok (.aload_n 0, 1) := by decide +kernel
theorem dX11_write_77 : decode cX11_write 77 = .ok (.aload_n 0, 1) := by decide +kernel
theorem dX11_write_78 : decode cX11_write 78 = .ok (.getfield 59, 3) := by decide +kernel
theorem dX11_write_81 : decode cX11_write 81 = .ok (.iload_n 1, 1) := by decide +kernel
theorem dX11_write_82 : decode cX11_write 82 = .ok (.laload, 1) := by decide +kernel
theorem dX11_write_83 : decode cX11_write 83 = .ok (.invokevirtual 789, 3) := by decide +kernel
theorem dX11_write_86 : decode cX11_write 86 = .ok (.aload_n 0, 1) := by decide +kernel
theorem dX11_write_87 : decode cX11_write 87 = .ok (.bipush 32, 2) := by decide +kernel
theorem dX11_write_89 : decode cX11_write 89 = .ok (.invokevirtual 783, 3) := by decide +kernel
theorem dX11_write_92 : decode cX11_write 92 = .ok (.aload_n 0, 1) := by decide +kernel
theorem dX11_write_93 : decode cX11_write 93 = .ok (.aload_n 0, 1) := by decide +kernel
theorem dX11_write_94 : decode cX11_write 94 = .ok (.getfield 62, 3) := by decide +kernel
theorem dX11_write_97 : decode cX11_write 97 = .ok (.iload_n 1, 1) := by decide +kernel
theorem dX11_write_98 : decode cX11_write 98 = .ok (.iaload, 1) := by decide +kernel
theorem dX11_write_99 : decode cX11_write 99 = .ok (.invokevirtual 786, 3) := by decide +kernel
theorem dX11_write_102 : decode cX11_write 102 = .ok (.iinc 1 1, 3) := by decide +kernel
theorem dX11_write_105 : decode cX11_write 105 = .ok (.goto (-73), 3) := by decide +kernel
theorem dX11_write_108 : decode cX11_write 108 = .ok (.aload_n 0, 1) := by decide +kernel
theorem dX11_write_109 : decode cX11_write 109 = .ok (.getfield 348, 3) := by decide +kernel
theorem dX11_write_112 : decode cX11_write 112 = .ok (.iconst 2, 1) := by decide +kernel
theorem dX11_write_113 : decode cX11_write 113 = .ok (.if_icmp .le 15, 3) := by decide +kernel
theorem dX11_write_116 : decode cX11_write 116 = .ok (.aload_n 0, 1) := by decide +kernel
theorem dX11_write_117 : decode cX11_write 117 = .ok (.bipush 59, 2) := by decide +kernel
theorem dX11_write_119 : decode cX11_write 119 = .ok (.invokevirtual 783, 3) := by decide +kernel
theorem dX11_write_122 : decode cX11_write 122 = .ok (.aload_n 0, 1) := by decide +kernel
theorem dX11_write_123 : decode cX11_write 123 = .ok (.bipush 10, 2) := by decide +kernel
theorem dX11_write_125 : decode cX11_write 125 = .ok (.invokevirtual 783, 3) := by decide +kernel
theorem dX11_write_128 : decode cX11_write 128 = .ok (.iconst 0, 1) := by decide +kernel
theorem dX11_write_129 : decode cX11_write 129 = .ok (.istore_n 1, 1) := by decide +kernel
theorem dX11_write_130 : decode cX11_write 130 = .ok (.iload_n 1, 1) := by decide +kernel
theorem dX11_write_131 : decode cX11_write 131 = .ok (.aload_n 0, 1) := by decide +kernel
theorem dX11_write_132 : decode cX11_write 132 = .ok (.getfield 486, 3) := by decide +kernel
theorem dX11_write_135 : decode cX11_write 135 = .ok (.if_icmp .ge 80, 3) := by decide +kernel
theorem dX11_write_138 : decode cX11_write 138 = .ok (.aload_n 0, 1) := by decide +kernel
theorem dX11_write_139 : decode cX11_write 139 = .ok (.iload_n 1, 1) := by decide +kernel
theorem dX11_write_140 : decode cX11_write 140 = .ok (.invokevirtual 801, 3) := by decide +kernel
theorem dX11_write_143 : decode cX11_write 143 = .ok (.iconst 0, 1) := by decide +kernel
theorem dX11_write_144 : decode cX11_write 144 = .ok (.istore_n 2, 1) := by decide +kernel
theorem dX11_write_145 : decode cX11_write 145 = .ok (.iload_n 2, 1) := by decide +kernel
theorem dX11_write_146 : decode cX11_write 146 = .ok (.aload_n 0, 1) := by decide +kernel
theorem dX11_write_147 : decode cX11_write 147 = .ok (.getfield 171, 3) := by decide +kernel
theorem dX11_write_150 : decode cX11_write 150 = .ok (.iload_n 1, 1) := by decide +kernel
theorem dX11_write_151 : decode cX11_write 151 = .ok (.iaload, 1) := by decide +kernel
theorem dX11_write_152 : decode cX11_write 152 = .ok (.if_icmp .ge 20, 3) := by decide +kernel
theorem dX11_write_155 : decode cX11_write 155 = .ok (.aload_n 0, 1) := by decide +kernel
theorem dX11_write_156 : decode cX11_write 156 = .ok (.bipush 32, 2) := by decide +kernel
theorem dX11_write_158 : decode cX11_write 158 = .ok (.invokevirtual 783, 3) := by decide +kernel
theorem dX11_write_161 : decode cX11_write 161 = .ok (.aload_n 0, 1) := by decide +kernel
theorem dX11_write_162 : decode cX11_write 162 = .ok (.iload_n 2, 1) := by decide +kernel
theorem dX11_write_163 : decode cX11_write 163 = .ok (.invokevirtual 792, 3) := by decide +kernel
theorem dX11_write_166 : decode cX11_write 166 = .ok (.iinc 2 1, 3) := by decide +kernel
theorem dX11_write_169 : decode cX11_write 169 = .ok (.goto (-24), 3) := by decide +kernel
theorem dX11_write_172 : decode cX11_write 172 = .ok (.aload_n 0, 1) := by decide +kernel
theorem dX11_write_173 : decode cX11_write 173 = .ok (.bipush 32, 2) := by decide +kernel
theorem dX11_write_175 : decode cX11_write 175 = .ok (.bipush 61, 2) := by decide +kernel
theorem dX11_write_177 : decode cX11_write 177 = .ok (.bipush 32, 2) := by decide +kernel
theorem dX11_write_179 : decode cX11_write 179 = .ok (.iconst 0, 1) := by decide +kernel
theorem dX11_write_180 : decode cX11_write 180 = .ok (.iconst 0, 1) := by decide +kernel
theorem dX11_write_181 : decode cX11_write 181 = .ok (.invokestatic 257, 3) := by decide +kernel
theorem dX11_write_184 : decode cX11_write 184 = .ok (.invokevirtual 789, 3) := by decide +kernel
theorem dX11_write_187 : decode cX11_write 187 = .ok (.aload_n 0, 1) := by decide +kernel
theorem dX11_write_188 : decode cX11_write 188 = .ok (.aload_n 0, 1) := by decide +kernel
theorem dX11_write_189 : decode cX11_write 189 = .ok (.getfield 165, 3) := by decide +kernel
theorem dX11_write_192 : decode cX11_write 192 = .ok (.iload_n 1, 1) := by decide +kernel
theorem dX11_write_193 : decode cX11_write 193 = .ok (.iaload, 1) := by decide +kernel
theorem dX11_write_194 : decode cX11_write 194 = .ok (.invokevirtual 808, 3) := by decide +kernel
theorem dX11_write_197 : decode cX11_write 197 = .ok (.aload_n 0, 1) := by decide +kernel
theorem dX11_write_198 : decode cX11_write 198 = .ok (.bipush 59, 2) := by decide +kernel
theorem dX11_write_200 : decode cX11_write 200 = .ok (.invokevirtual 783, 3) := by decide +kernel
theorem dX11_write_203 : decode cX11_write 203 = .ok (.aload_n 0, 1) := by decide +kernel
theorem dX11_write_204 : decode cX11_write 204 = .ok (.bipush 10, 2) := by decide +kernel
theorem dX11_write_206 : decode cX11_write 206 = .ok (.invokevirtual 783, 3) := by decide +kernel
theorem dX11_write_209 : decode cX11_write 209 = .ok (.iinc 1 1, 3) := by decide +kernel
theorem dX11_write_212 : decode cX11_write 212 = .ok (.goto (-82), 3) := by decide +kernel
theorem dX11_write_215 : decode cX11_write 215 = .ok (.aload_n 0, 1) := by decide +kernel
theorem dX11_write_216 : decode cX11_write 216 = .ok (.getfield 780, 3) := by decide +kernel
theorem dX11_write_219 : decode cX11_write 219 = .ok (.sipush 12000, 3) := by decide +kernel
theorem dX11_write_222 : decode cX11_write 222 = .ok (.if_icmp .le 5, 3) := by decide +kernel
theorem dX11_write_225 : decode cX11_write 225 = .ok (.iconst (-1), 1) := by decide +kernel
theorem dX11_write_226 : decode cX11_write 226 = .ok (.ireturn, 1) := by decide +kernel
theorem dX11_write_227 : decode cX11_write 227 = .ok (.iconst 0, 1) := by decide +kernel
theorem dX11_write_228 : decode cX11_write 228 = .ok (.istore_n 1, 1) := by decide +kernel
theorem dX11_write_229 : decode cX11_write 229 = .ok (.iload_n 1, 1) := by decide +kernel
theorem dX11_write_230 : decode cX11_write 230 = .ok (.aload_n 0, 1) := by decide +kernel
theorem dX11_write_231 : decode cX11_write 231 = .ok (.getfield 780, 3) := by decide +kernel
theorem dX11_write_234 : decode cX11_write 234 = .ok (.if_icmp .ge 21, 3) := by decide +kernel
theorem dX11_write_237 : decode cX11_write 237 = .ok (.aload_n 0, 1) := by decide +kernel
theorem dX11_write_238 : decode cX11_write 238 = .ok (.getfield 13, 3) := by decide +kernel
theorem dX11_write_241 : decode cX11_write 241 = .ok (.iload_n 1, 1) := by decide +kernel
theorem dX11_write_242 : decode cX11_write 242 = .ok (.aload_n 0, 1) := by decide +kernel
theorem dX11_write_243 : decode cX11_write 243 = .ok (.getfield 248, 3) := by decide +kernel
theorem dX11_write_246 : decode cX11_write 246 = .ok (.iload_n 1, 1) := by decide +kernel
theorem dX11_write_247 : decode cX11_write 247 = .ok (.iaload, 1) := by decide +kernel
theorem dX11_write_248 : decode cX11_write 248 = .ok (.iastore, 1) := by decide +kernel
theorem dX11_write_249 : decode cX11_write 249 = .ok (.iinc 1 1, 3) := by decide +kernel
theorem dX11_write_252 : decode cX11_write 252 = .ok (.goto (-23), 3) := by decide +kernel
theorem dX11_write_255 : decode cX11_write 255 = .ok (.aload_n 0, 1) := by decide +kernel
theorem dX11_write_256 : decode cX11_write 256 = .ok (.aload_n 0, 1) := by decide +kernel
theorem dX11_write_257 : decode cX11_write 257 = .ok (.getfield 780, 3) := by decide +kernel
theorem dX11_write_260 : decode cX11_write 260 = .ok (.putfield 777, 3) := by decide +kernel
theorem dX11_write_263 : decode cX11_write 263 = .ok (.aload_n 0, 1) := by decide +kernel
theorem dX11_write_264 : decode cX11_write 264 = .ok (.getfield 777, 3) := by decide +kernel
theorem dX11_write_267 : decode cX11_write 267 = .ok (.ireturn, 1) := by decide +kernel
theorem mw_X11_write : MW yX11_write (Cond.code yX11_write cX11_write 3 (Option.some Jvm.ClassFile.FieldType.int)) cX11_write 3 (Option.some Jvm.ClassFile.FieldType.int) 0 := ⟨rfl, ⟨(lw_all_tbl q3371), rfl, (lw_all_tbl q173)⟩, rfl, ⟨by decide, by decide⟩, by decide +kernel⟩
abbrev okt_write_145 (x : Int × Int) : Prop := R32 x.1 ∧ R32 x.2
abbrev lvt_write_145 (Γ : Gm) (x : Int × Int) : List (Nat × Value) := [(0, vA (mg Γ) 21), (1, vI x.1), (2, vI x.2)]
noncomputable def t_write_145b {A : Type} (k_172 : Int → Mo TS A) (l1 : Int) (l2 : Int) : Mo TS ((Int × Int) ⊕ A) :=
  bnd (rd 82 640 l1) fun v1 =>
  if v1 ≤ l2 then
    lo (k_172 l1)
  else
    bnd (t_letters 32) fun _ =>
    bnd (t_variable l2) fun _ =>
    pr (.inl (l1, (w32 (l2 + 1))))
theorem st_write_145b {Γ : Gm} {h : CH} {d : Nat} (hT : HT h) (o : Ok Γ "LazyForgeModel" cX11_write 3 (Option.some Jvm.ClassFile.FieldType.int) (d + 6)) {A : Type} {K : A → TS → Prop} (k_172 : Int → Mo TS A) (hk_172 : ∀ (l1 : Int), R32 l1 → Sx Γ (fun t => (h, t)) K 172 [(0, vA (mg Γ) 21), (1, vI l1)] [] (k_172 l1)) (l1 : Int) (l2 : Int) (hl1 : R32 l1) (hl2 : R32 l2) : Sx Γ (fun t => (h, t)) (KL Γ (fun t => (h, t)) okt_write_145 K 145 (lvt_write_145 Γ) []) 145 [(0, vA (mg Γ) 21), (1, vI l1), (2, vI l2)] [] (t_write_145b k_172 l1 l2) := by
  unfold t_write_145b
  refine s_iload_n o dX11_write_145 rfl 2 rfl ?_
  refine s_aload_n o dX11_write_146 rfl 0 rfl ?_
  refine s_tga (x := 75) o hT tf_parameterCounts ta_parameterCounts (lw_all_tbl q2586) dX11_write_147 ?_
  refine s_iload_n o dX11_write_150 rfl 1 rfl ?_
  refine r_tiald o hT tr_parameterCounts hl1 dX11_write_151 (fun v1 hv1 => ?_)
  refine s_icmp_ge (tgt := 172) o dX11_write_152 (by decide) hl2 hv1 ?_ ?_
  · refine r_to [(0, vA (mg Γ) 21), (1, vI l1)] [0, 1] rfl ?_
    exact s_lo (hk_172 l1 hl1)
  · refine s_aload_n o dX11_write_155 rfl 0 rfl ?_
    refine s_bipush o dX11_write_156 rfl ?_
    refine s_cv (d := d + 5) (C := "LazyForgeModel") (As := [vI 32]) (st := []) o (st_letters (mg Γ) (d + 5) h hT 32 (r32 rfl)) mw_X11_letters rfl (Or.inl (lw_all_tbl q3376)) (lw_all_tbl qs152) (lw_all_tbl q3378) (fun t => rc_t o hT t) wt_0 rfl dX11_write_158 rfl (rs := fun _ => []) (fun _ => rfl) (fun _ _ => ?_)
    refine s_aload_n o dX11_write_161 rfl 0 rfl ?_
    refine s_iload_n o dX11_write_162 rfl 2 rfl ?_
    refine s_cv (d := d + 5) (C := "LazyForgeModel") (As := [vI l2]) (st := []) o (st_variable (mg Γ) (d + 3) h hT l2 hl2) mw_X11_variable rfl (Or.inl (lw_all_tbl q3388)) (lw_all_tbl qs155) (lw_all_tbl q3390) (fun t => rc_t o hT t) wt_0 rfl dX11_write_163 rfl (rs := fun _ => []) (fun _ => rfl) (fun _ _ => ?_)
    refine r_iinc (j := 2) o dX11_write_166 rfl rfl [(0, vA (mg Γ) 21), (1, vI l1)] [0, 1] rfl ⟨(Nat.ne_of_beq_eq_false rfl), (fun _ => (vA_cat (mg Γ) 21)), ⟨(Nat.ne_of_beq_eq_false rfl), (fun _ => rfl), trivial⟩⟩ ?_
    refine s_goto (tgt := 145) o dX11_write_169 (by decide) ?_
    refine r_to [(0, vA (mg Γ) 21), (1, vI l1), (2, vI (w32 (l2 + 1)))] [1, 2, 0] rfl ?_
    exact s_back (⟨hl1, (w32_R _)⟩) rfl
noncomputable def t_write_145 {A : Type} (k_172 : Int → Mo TS A) (l1 : Int) (l2 : Int) : Mo TS A := Loop (fun x => t_write_145b k_172 x.1 x.2) (l1, l2)
theorem st_write_145 {Γ : Gm} {h : CH} {d : Nat} (hT : HT h) (o : Ok Γ "LazyForgeModel" cX11_write 3 (Option.some Jvm.ClassFile.FieldType.int) (d + 6)) {A : Type} {K : A → TS → Prop} (k_172 : Int → Mo TS A) (hk_172 : ∀ (l1 : Int), R32 l1 → Sx Γ (fun t => (h, t)) K 172 [(0, vA (mg Γ) 21), (1, vI l1)] [] (k_172 l1)) (l1 : Int) (l2 : Int) (hl1 : R32 l1) (hl2 : R32 l2) : Sx Γ (fun t => (h, t)) K 145 [(0, vA (mg Γ) 21), (1, vI l1), (2, vI l2)] [] (t_write_145 k_172 l1 l2) :=
  s_loop okt_write_145 (lvt_write_145 Γ) (fun x hx => st_write_145b hT o k_172 hk_172 x.1 x.2 hx.1 hx.2) (x := (l1, l2)) ⟨hl1, hl2⟩
abbrev okt_write_229 (x : Int) : Prop := R32 x
abbrev lvt_write_229 (Γ : Gm) (x : Int) : List (Nat × Value) := [(0, vA (mg Γ) 21), (1, vI x)]
noncomputable def t_write_229b {A : Type} (k_255 : Mo TS A) (l1 : Int) : Mo TS ((Int) ⊕ A) :=
  bnd (gs 134) fun v1 =>
  if v1 ≤ l1 then
    lo k_255
  else
    bnd (rd 135 12001 l1) fun v2 =>
    bnd (wr 3 12000 l1 v2) fun _ =>
    pr (.inl (w32 (l1 + 1)))
theorem st_write_229b {Γ : Gm} {h : CH} {d : Nat} (hT : HT h) (o : Ok Γ "LazyForgeModel" cX11_write 3 (Option.some Jvm.ClassFile.FieldType.int) (d + 6)) {A : Type} {K : A → TS → Prop} (k_255 : Mo TS A) (hk_255 : Sx Γ (fun t => (h, t)) K 255 [(0, vA (mg Γ) 21)] [] (k_255)) (l1 : Int) (hl1 : R32 l1) : Sx Γ (fun t => (h, t)) (KL Γ (fun t => (h, t)) okt_write_229 K 229 (lvt_write_229 Γ) []) 229 [(0, vA (mg Γ) 21), (1, vI l1)] [] (t_write_229b k_255 l1) := by
  unfold t_write_229b
  refine s_iload_n o dX11_write_229 rfl 1 rfl ?_
  refine s_aload_n o dX11_write_230 rfl 0 rfl ?_
  refine r_tgf vI rfl o hT tf_drafted tj_drafted (lw_all_tbl q2638) dX11_write_231 (fun v1 hv1 => ?_)
  refine s_icmp_ge (tgt := 255) o dX11_write_234 (by decide) hl1 hv1 ?_ ?_
  · refine r_to [(0, vA (mg Γ) 21)] [0] rfl ?_
    exact s_lo hk_255
  · refine s_aload_n o dX11_write_237 rfl 0 rfl ?_
    refine s_tga (x := 23) o hT tf_out ta_out (lw_all_tbl q2507) dX11_write_238 ?_
    refine s_iload_n o dX11_write_241 rfl 1 rfl ?_
    refine s_aload_n o dX11_write_242 rfl 0 rfl ?_
    refine s_tga (x := 98) o hT tf_draft ta_draft (lw_all_tbl q2639) dX11_write_243 ?_
    refine s_iload_n o dX11_write_246 rfl 1 rfl ?_
    refine r_tiald o hT tr_draft hl1 dX11_write_247 (fun v2 hv2 => ?_)
    refine r_tiast o hT tr_out hl1 hv2 dX11_write_248 ?_
    refine r_iinc (j := 1) o dX11_write_249 rfl rfl [(0, vA (mg Γ) 21)] [0] rfl ⟨(Nat.ne_of_beq_eq_false rfl), (fun _ => (vA_cat (mg Γ) 21)), trivial⟩ ?_
    refine s_goto (tgt := 229) o dX11_write_252 (by decide) ?_
    refine r_to [(0, vA (mg Γ) 21), (1, vI (w32 (l1 + 1)))] [1, 0] rfl ?_
    exact s_back (w32_R _) rfl
noncomputable def t_write_229 {A : Type} (k_255 : Mo TS A) (l1 : Int) : Mo TS A := Loop (fun x => t_write_229b k_255 x) l1
theorem st_write_229 {Γ : Gm} {h : CH} {d : Nat} (hT : HT h) (o : Ok Γ "LazyForgeModel" cX11_write 3 (Option.some Jvm.ClassFile.FieldType.int) (d + 6)) {A : Type} {K : A → TS → Prop} (k_255 : Mo TS A) (hk_255 : Sx Γ (fun t => (h, t)) K 255 [(0, vA (mg Γ) 21)] [] (k_255)) (l1 : Int) (hl1 : R32 l1) : Sx Γ (fun t => (h, t)) K 229 [(0, vA (mg Γ) 21), (1, vI l1)] [] (t_write_229 k_255 l1) :=
  s_loop okt_write_229 (lvt_write_229 Γ) (fun x hx => st_write_229b hT o k_255 hk_255 x hx) (x := l1) hl1
abbrev okt_write_32 (x : Int) : Prop := R32 x
abbrev lvt_write_32 (Γ : Gm) (x : Int) : List (Nat × Value) := [(0, vA (mg Γ) 21), (1, vI x)]
noncomputable def t_write_73 {A : Type} (k_108 : Mo TS A) (l1 : Int) (k0 : Int) : Mo TS ((Int) ⊕ A) :=
  bnd (t_signs k0) fun _ =>
  bnd (rd 32 30 l1) fun v1 =>
  bnd (t_signs v1) fun _ =>
  bnd (t_letters 32) fun _ =>
  bnd (rd 33 30 l1) fun v2 =>
  bnd (t_digits v2) fun _ =>
  pr (.inl (w32 (l1 + 1)))
theorem st_write_73 {Γ : Gm} {h : CH} {d : Nat} (hT : HT h) (o : Ok Γ "LazyForgeModel" cX11_write 3 (Option.some Jvm.ClassFile.FieldType.int) (d + 6)) {A : Type} {K : A → TS → Prop}  (k_108 : Mo TS A) (hk_108 : Sx Γ (fun t => (h, t)) K 108 [(0, vA (mg Γ) 21)] [] (k_108)) (l1 : Int) (k0 : Int) (hl1 : R32 l1) (hk0 : R64 k0) : Sx Γ (fun t => (h, t)) (KL Γ (fun t => (h, t)) okt_write_32 K 32 (lvt_write_32 Γ) []) 73 [(0, vA (mg Γ) 21), (1, vI l1)] [vJ k0, vA (mg Γ) 21] (t_write_73 k_108 l1 k0) := by
  unfold t_write_73
  refine s_cv (d := d + 5) (C := "LazyForgeModel") (As := [vJ k0]) (st := []) o (st_signs (mg Γ) (d + 4) h hT k0 hk0) mw_X11_signs rfl (Or.inl (lw_all_tbl q3372)) (lw_all_tbl qs151) (lw_all_tbl q3374) (fun t => rc_t o hT t) wt_0 rfl dX11_write_73 rfl (rs := fun _ => []) (fun _ => rfl) (fun _ _ => ?_)
  refine s_aload_n o dX11_write_76 rfl 0 rfl ?_
  refine s_aload_n o dX11_write_77 rfl 0 rfl ?_
  refine s_tga (x := 38) o hT tf_constructorNames ta_constructorNames (lw_all_tbl q2536) dX11_write_78 ?_
  refine s_iload_n o dX11_write_81 rfl 1 rfl ?_
  refine r_tlald o hT tr_constructorNames hl1 dX11_write_82 (fun v1 hv1 => ?_)
  refine s_cv (d := d + 5) (C := "LazyForgeModel") (As := [vJ v1]) (st := []) o (st_signs (mg Γ) (d + 4) h hT v1 hv1) mw_X11_signs rfl (Or.inl (lw_all_tbl q3372)) (lw_all_tbl qs151) (lw_all_tbl q3374) (fun t => rc_t o hT t) wt_0 rfl dX11_write_83 rfl (rs := fun _ => []) (fun _ => rfl) (fun _ _ => ?_)
  refine s_aload_n o dX11_write_86 rfl 0 rfl ?_
  refine s_bipush o dX11_write_87 rfl ?_
  refine s_cv (d := d + 5) (C := "LazyForgeModel") (As := [vI 32]) (st := []) o (st_letters (mg Γ) (d + 5) h hT 32 (r32 rfl)) mw_X11_letters rfl (Or.inl (lw_all_tbl q3376)) (lw_all_tbl qs152) (lw_all_tbl q3378) (fun t => rc_t o hT t) wt_0 rfl dX11_write_89 rfl (rs := fun _ => []) (fun _ => rfl) (fun _ _ => ?_)
  refine s_aload_n o dX11_write_92 rfl 0 rfl ?_
  refine s_aload_n o dX11_write_93 rfl 0 rfl ?_
  refine s_tga (x := 39) o hT tf_fieldCounts ta_fieldCounts (lw_all_tbl q2537) dX11_write_94 ?_
  refine s_iload_n o dX11_write_97 rfl 1 rfl ?_
  refine r_tiald o hT tr_fieldCounts hl1 dX11_write_98 (fun v2 hv2 => ?_)
  refine s_cv (d := d + 5) (C := "LazyForgeModel") (As := [vI v2]) (st := []) o (st_digits (mg Γ) (d + 4) h hT v2 hv2) mw_X11_digits rfl (Or.inl (lw_all_tbl q3380)) (lw_all_tbl qs153) (lw_all_tbl q3382) (fun t => rc_t o hT t) wt_0 rfl dX11_write_99 rfl (rs := fun _ => []) (fun _ => rfl) (fun _ _ => ?_)
  refine r_iinc (j := 1) o dX11_write_102 rfl rfl [(0, vA (mg Γ) 21)] [0] rfl ⟨(Nat.ne_of_beq_eq_false rfl), (fun _ => (vA_cat (mg Γ) 21)), trivial⟩ ?_
  refine s_goto (tgt := 32) o dX11_write_105 (by decide) ?_
  refine r_to [(0, vA (mg Γ) 21), (1, vI (w32 (l1 + 1)))] [1, 0] rfl ?_
  exact s_back (w32_R _) rfl
noncomputable def t_write_32b {A : Type} (k_108 : Mo TS A) (l1 : Int) : Mo TS ((Int) ⊕ A) :=
  bnd (gs 31) fun v1 =>
  if v1 ≤ l1 then
    lo k_108
  else
    if ¬ l1 = 2 then
      bnd (t_pack 32 124 32 0 0) fun v2 =>
      t_write_73 k_108 l1 v2
    else
      bnd (t_pack 100 97 116 97 32) fun v3 =>
      t_write_73 k_108 l1 v3
theorem st_write_32b {Γ : Gm} {h : CH} {d : Nat} (hT : HT h) (o : Ok Γ "LazyForgeModel" cX11_write 3 (Option.some Jvm.ClassFile.FieldType.int) (d + 6)) {A : Type} {K : A → TS → Prop} (k_108 : Mo TS A) (hk_108 : Sx Γ (fun t => (h, t)) K 108 [(0, vA (mg Γ) 21)] [] (k_108)) (l1 : Int) (hl1 : R32 l1) : Sx Γ (fun t => (h, t)) (KL Γ (fun t => (h, t)) okt_write_32 K 32 (lvt_write_32 Γ) []) 32 [(0, vA (mg Γ) 21), (1, vI l1)] [] (t_write_32b k_108 l1) := by
  unfold t_write_32b
  refine s_iload_n o dX11_write_32 rfl 1 rfl ?_
  refine s_aload_n o dX11_write_33 rfl 0 rfl ?_
  refine r_tgf vI rfl o hT tf_constructors tj_constructors (lw_all_tbl q2535) dX11_write_34 (fun v1 hv1 => ?_)
  refine s_icmp_ge (tgt := 108) o dX11_write_37 (by decide) hl1 hv1 ?_ ?_
  · refine r_to [(0, vA (mg Γ) 21)] [0] rfl ?_
    exact s_lo hk_108
  · refine s_aload_n o dX11_write_40 rfl 0 rfl ?_
    refine s_iload_n o dX11_write_41 rfl 1 rfl ?_
    refine s_iconst o dX11_write_42 ?_
    refine s_icmp_ne (tgt := 62) o dX11_write_43 (by decide) hl1 (r32 rfl) ?_ ?_
    · refine s_bipush o dX11_write_62 rfl ?_
      refine s_bipush o dX11_write_64 rfl ?_
      refine s_bipush o dX11_write_66 rfl ?_
      refine s_iconst o dX11_write_68 ?_
      refine s_iconst o dX11_write_69 ?_
      refine s_cs (d := d + 5) (As := [vI 32, vI 124, vI 32, vI 0, vI 0]) (st := [vA (mg Γ) 21]) o (st_pack (mg Γ) (d + 5) h 32 124 32 0 0 (r32 rfl) (r32 rfl) (r32 rfl) (r32 rfl) (r32 rfl)) mw_X11_pack rfl (Or.inl (lw_all_tbl q2929)) (lw_all_tbl q2930) (wt_A wt_0) rfl dX11_write_70 rfl (rs := fun r => [vJ r, vA (mg Γ) 21]) (fun _ => rfl) (fun v2 hv2 => ?_)
      exact st_write_73 hT o k_108 hk_108 l1 v2 hl1 (hv2 _ rfl)
    · refine s_bipush o dX11_write_46 rfl ?_
      refine s_bipush o dX11_write_48 rfl ?_
      refine s_bipush o dX11_write_50 rfl ?_
      refine s_bipush o dX11_write_52 rfl ?_
      refine s_bipush o dX11_write_54 rfl ?_
      refine s_cs (d := d + 5) (As := [vI 100, vI 97, vI 116, vI 97, vI 32]) (st := [vA (mg Γ) 21]) o (st_pack (mg Γ) (d + 5) h 100 97 116 97 32 (r32 rfl) (r32 rfl) (r32 rfl) (r32 rfl) (r32 rfl)) mw_X11_pack rfl (Or.inl (lw_all_tbl q2929)) (lw_all_tbl q2930) (wt_A wt_0) rfl dX11_write_56 rfl (rs := fun r => [vJ r, vA (mg Γ) 21]) (fun _ => rfl) (fun v3 hv3 => ?_)
      refine s_goto (tgt := 73) o dX11_write_59 (by decide) ?_
      exact st_write_73 hT o k_108 hk_108 l1 v3 hl1 (hv3 _ rfl)
noncomputable def t_write_32 {A : Type} (k_108 : Mo TS A) (l1 : Int) : Mo TS A := Loop (fun x => t_write_32b k_108 x) l1
theorem st_write_32 {Γ : Gm} {h : CH} {d : Nat} (hT : HT h) (o : Ok Γ "LazyForgeModel" cX11_write 3 (Option.some Jvm.ClassFile.FieldType.int) (d + 6)) {A : Type} {K : A → TS → Prop} (k_108 : Mo TS A) (hk_108 : Sx Γ (fun t => (h, t)) K 108 [(0, vA (mg Γ) 21)] [] (k_108)) (l1 : Int) (hl1 : R32 l1) : Sx Γ (fun t => (h, t)) K 32 [(0, vA (mg Γ) 21), (1, vI l1)] [] (t_write_32 k_108 l1) :=
  s_loop okt_write_32 (lvt_write_32 Γ) (fun x hx => st_write_32b hT o k_108 hk_108 x hx) (x := l1) hl1
abbrev okt_write_130 (x : Int) : Prop := R32 x
abbrev lvt_write_130 (Γ : Gm) (x : Int) : List (Nat × Value) := [(0, vA (mg Γ) 21), (1, vI x)]
noncomputable def t_write_130b {A : Type} (k_215 : Mo TS A) (l1 : Int) : Mo TS ((Int) ⊕ A) :=
  bnd (gs 46) fun v1 =>
  if v1 ≤ l1 then
    lo k_215
  else
    bnd (t_functionName l1) fun _ =>
    t_write_145
      (fun v2 => bnd (t_pack 32 61 32 0 0) fun v3 =>
    bnd (t_signs v3) fun _ =>
    bnd (rd 80 640 v2) fun v4 =>
    bnd (t_writeE v4) fun _ =>
    bnd (t_letters 59) fun _ =>
    bnd (t_letters 10) fun _ =>
    pr (.inl (w32 (v2 + 1)))) l1 0
theorem st_write_130b {Γ : Gm} {h : CH} {d : Nat} (hT : HT h) (o : Ok Γ "LazyForgeModel" cX11_write 3 (Option.some Jvm.ClassFile.FieldType.int) (d + 6)) {A : Type} {K : A → TS → Prop} (k_215 : Mo TS A) (hk_215 : Sx Γ (fun t => (h, t)) K 215 [(0, vA (mg Γ) 21)] [] (k_215)) (l1 : Int) (hl1 : R32 l1) : Sx Γ (fun t => (h, t)) (KL Γ (fun t => (h, t)) okt_write_130 K 130 (lvt_write_130 Γ) []) 130 [(0, vA (mg Γ) 21), (1, vI l1)] [] (t_write_130b k_215 l1) := by
  unfold t_write_130b
  refine s_iload_n o dX11_write_130 rfl 1 rfl ?_
  refine s_aload_n o dX11_write_131 rfl 0 rfl ?_
  refine r_tgf vI rfl o hT tf_named tj_named (lw_all_tbl q2550) dX11_write_132 (fun v1 hv1 => ?_)
  refine s_icmp_ge (tgt := 215) o dX11_write_135 (by decide) hl1 hv1 ?_ ?_
  · refine r_to [(0, vA (mg Γ) 21)] [0] rfl ?_
    exact s_lo hk_215
  · refine s_aload_n o dX11_write_138 rfl 0 rfl ?_
    refine s_iload_n o dX11_write_139 rfl 1 rfl ?_
    refine s_cv (d := d + 5) (C := "LazyForgeModel") (As := [vI l1]) (st := []) o (st_functionName (mg Γ) (d + 3) h hT l1 hl1) mw_X11_functionName rfl (Or.inl (lw_all_tbl q3384)) (lw_all_tbl qs154) (lw_all_tbl q3386) (fun t => rc_t o hT t) wt_0 rfl dX11_write_140 rfl (rs := fun _ => []) (fun _ => rfl) (fun _ _ => ?_)
    refine s_iconst o dX11_write_143 ?_
    refine r_istore_n o dX11_write_144 rfl rfl ⟨(Nat.ne_of_beq_eq_false rfl), (fun _ => (vA_cat (mg Γ) 21)), ⟨(Nat.ne_of_beq_eq_false rfl), (fun _ => rfl), trivial⟩⟩ ?_
    refine r_to [(0, vA (mg Γ) 21), (1, vI l1), (2, vI 0)] [1, 2, 0] rfl ?_
    refine st_write_145 hT o _ ?_ l1 0 hl1 (r32 rfl)
    · intro v2 hv2
      refine s_aload_n o dX11_write_172 rfl 0 rfl ?_
      refine s_bipush o dX11_write_173 rfl ?_
      refine s_bipush o dX11_write_175 rfl ?_
      refine s_bipush o dX11_write_177 rfl ?_
      refine s_iconst o dX11_write_179 ?_
      refine s_iconst o dX11_write_180 ?_
      refine s_cs (d := d + 5) (As := [vI 32, vI 61, vI 32, vI 0, vI 0]) (st := [vA (mg Γ) 21]) o (st_pack (mg Γ) (d + 5) h 32 61 32 0 0 (r32 rfl) (r32 rfl) (r32 rfl) (r32 rfl) (r32 rfl)) mw_X11_pack rfl (Or.inl (lw_all_tbl q2929)) (lw_all_tbl q2930) (wt_A wt_0) rfl dX11_write_181 rfl (rs := fun r => [vJ r, vA (mg Γ) 21]) (fun _ => rfl) (fun v3 hv3 => ?_)
      refine s_cv (d := d + 5) (C := "LazyForgeModel") (As := [vJ v3]) (st := []) o (st_signs (mg Γ) (d + 4) h hT v3 (hv3 _ rfl)) mw_X11_signs rfl (Or.inl (lw_all_tbl q3372)) (lw_all_tbl qs151) (lw_all_tbl q3374) (fun t => rc_t o hT t) wt_0 rfl dX11_write_184 rfl (rs := fun _ => []) (fun _ => rfl) (fun _ _ => ?_)
      refine s_aload_n o dX11_write_187 rfl 0 rfl ?_
      refine s_aload_n o dX11_write_188 rfl 0 rfl ?_
      refine s_tga (x := 73) o hT tf_roots ta_roots (lw_all_tbl q2584) dX11_write_189 ?_
      refine s_iload_n o dX11_write_192 rfl 1 rfl ?_
      refine r_tiald o hT tr_roots hv2 dX11_write_193 (fun v4 hv4 => ?_)
      refine s_cv (d := d + 5) (C := "LazyForgeModel") (As := [vI v4]) (st := []) o (st_writeE (mg Γ) d h hT v4 hv4) mw_X11_writeE rfl (Or.inl (lw_all_tbl q3392)) (lw_all_tbl qs156) (lw_all_tbl q3394) (fun t => rc_t o hT t) wt_0 rfl dX11_write_194 rfl (rs := fun _ => []) (fun _ => rfl) (fun _ _ => ?_)
      refine s_aload_n o dX11_write_197 rfl 0 rfl ?_
      refine s_bipush o dX11_write_198 rfl ?_
      refine s_cv (d := d + 5) (C := "LazyForgeModel") (As := [vI 59]) (st := []) o (st_letters (mg Γ) (d + 5) h hT 59 (r32 rfl)) mw_X11_letters rfl (Or.inl (lw_all_tbl q3376)) (lw_all_tbl qs152) (lw_all_tbl q3378) (fun t => rc_t o hT t) wt_0 rfl dX11_write_200 rfl (rs := fun _ => []) (fun _ => rfl) (fun _ _ => ?_)
      refine s_aload_n o dX11_write_203 rfl 0 rfl ?_
      refine s_bipush o dX11_write_204 rfl ?_
      refine s_cv (d := d + 5) (C := "LazyForgeModel") (As := [vI 10]) (st := []) o (st_letters (mg Γ) (d + 5) h hT 10 (r32 rfl)) mw_X11_letters rfl (Or.inl (lw_all_tbl q3376)) (lw_all_tbl qs152) (lw_all_tbl q3378) (fun t => rc_t o hT t) wt_0 rfl dX11_write_206 rfl (rs := fun _ => []) (fun _ => rfl) (fun _ _ => ?_)
      refine r_iinc (j := 1) o dX11_write_209 rfl rfl [(0, vA (mg Γ) 21)] [0] rfl ⟨(Nat.ne_of_beq_eq_false rfl), (fun _ => (vA_cat (mg Γ) 21)), trivial⟩ ?_
      refine s_goto (tgt := 130) o dX11_write_212 (by decide) ?_
      refine r_to [(0, vA (mg Γ) 21), (1, vI (w32 (v2 + 1)))] [1, 0] rfl ?_
      exact s_back (w32_R _) rfl
noncomputable def t_write_130 {A : Type} (k_215 : Mo TS A) (l1 : Int) : Mo TS A := Loop (fun x => t_write_130b k_215 x) l1
theorem st_write_130 {Γ : Gm} {h : CH} {d : Nat} (hT : HT h) (o : Ok Γ "LazyForgeModel" cX11_write 3 (Option.some Jvm.ClassFile.FieldType.int) (d + 6)) {A : Type} {K : A → TS → Prop} (k_215 : Mo TS A) (hk_215 : Sx Γ (fun t => (h, t)) K 215 [(0, vA (mg Γ) 21)] [] (k_215)) (l1 : Int) (hl1 : R32 l1) : Sx Γ (fun t => (h, t)) K 130 [(0, vA (mg Γ) 21), (1, vI l1)] [] (t_write_130 k_215 l1) :=
  s_loop okt_write_130 (lvt_write_130 Γ) (fun x hx => st_write_130b hT o k_215 hk_215 x hx) (x := l1) hl1
noncomputable def t_write_128  : Mo TS Int :=
  t_write_130
    (bnd (gs 134) fun v1 =>
  if v1 ≤ 12000 then
    t_write_229
      (bnd (gs 134) fun v2 =>
    bnd (ss 4 v2) fun _ =>
    bnd (gs 4) fun v3 =>
    pr v3) 0
  else
    pr (-1)) 0
theorem st_write_128 {Γ : Gm} {h : CH} {d : Nat} (hT : HT h) (o : Ok Γ "LazyForgeModel" cX11_write 3 (Option.some Jvm.ClassFile.FieldType.int) (d + 6))   : Sx Γ (fun t => (h, t)) (fun a s => mt Γ = (0, a, ((h, s) : Wd))) 128 [(0, vA (mg Γ) 21)] [] (t_write_128) := by
  unfold t_write_128
  refine s_iconst o dX11_write_128 ?_
  refine r_istore_n o dX11_write_129 rfl rfl ⟨(Nat.ne_of_beq_eq_false rfl), (fun _ => (vA_cat (mg Γ) 21)), trivial⟩ ?_
  refine r_to [(0, vA (mg Γ) 21), (1, vI 0)] [1, 0] rfl ?_
  refine st_write_130 hT o _ ?_ 0 (r32 rfl)
  · refine s_aload_n o dX11_write_215 rfl 0 rfl ?_
    refine r_tgf vI rfl o hT tf_drafted tj_drafted (lw_all_tbl q2638) dX11_write_216 (fun v1 hv1 => ?_)
    refine s_sipush o dX11_write_219 rfl ?_
    refine s_icmp_le (tgt := 227) o dX11_write_222 (by decide) hv1 (r32 rfl) ?_ ?_
    · refine s_iconst o dX11_write_227 ?_
      refine r_istore_n o dX11_write_228 rfl rfl ⟨(Nat.ne_of_beq_eq_false rfl), (fun _ => (vA_cat (mg Γ) 21)), trivial⟩ ?_
      refine r_to [(0, vA (mg Γ) 21), (1, vI 0)] [1, 0] rfl ?_
      refine st_write_229 hT o _ ?_ 0 (r32 rfl)
      · refine s_aload_n o dX11_write_255 rfl 0 rfl ?_
        refine s_aload_n o dX11_write_256 rfl 0 rfl ?_
        refine r_tgf vI rfl o hT tf_drafted tj_drafted (lw_all_tbl q2638) dX11_write_257 (fun v2 hv2 => ?_)
        refine r_tpf vI rfl o hT tf_outSize tj_outSize (lw_all_tbl q2508) dX11_write_260 hv2 ty_int ?_
        refine s_aload_n o dX11_write_263 rfl 0 rfl ?_
        refine r_tgf vI rfl o hT tf_outSize tj_outSize (lw_all_tbl q2508) dX11_write_264 (fun v3 hv3 => ?_)
        exact s_iret o rfl i_int hv3 dX11_write_267 (fun _ hh => hh)
    · refine s_iconst o dX11_write_225 ?_
      exact s_iret o rfl i_int (r32 rfl) dX11_write_226 (fun _ hh => hh)
noncomputable def t_write_13  (k0 : Int) : Mo TS Int :=
  bnd (ss 0 k0) fun _ =>
  bnd (gs 0) fun v1 =>
  if v1 ≤ 0 then
    bnd (ss 134 0) fun _ =>
    t_write_32
      (bnd (gs 31) fun v2 =>
    if v2 ≤ 2 then
      t_write_128
    else
      bnd (t_letters 59) fun _ =>
      bnd (t_letters 10) fun _ =>
      t_write_128) 2
  else
    pr 0
theorem st_write_13 {Γ : Gm} {h : CH} {d : Nat} (hT : HT h) (o : Ok Γ "LazyForgeModel" cX11_write 3 (Option.some Jvm.ClassFile.FieldType.int) (d + 6))   (k0 : Int) (hk0 : rg .boolean k0) : Sx Γ (fun t => (h, t)) (fun a s => mt Γ = (0, a, ((h, s) : Wd))) 13 [(0, vA (mg Γ) 21)] [vI k0, vA (mg Γ) 21] (t_write_13 k0) := by
  unfold t_write_13
  refine r_tpf vI rfl o hT tf_thrown tj_thrown (lw_all_tbl q2504) dX11_write_13 (rZ hk0) ty_int ?_
  refine s_aload_n o dX11_write_16 rfl 0 rfl ?_
  refine r_tgf vI rfl o hT tf_thrown tj_thrown (lw_all_tbl q2504) dX11_write_17 (fun v1 hv1 => ?_)
  refine s_if_le (tgt := 25) o dX11_write_20 (by decide) hv1 ?_ ?_
  · refine s_aload_n o dX11_write_25 rfl 0 rfl ?_
    refine s_iconst o dX11_write_26 ?_
    refine r_tpf vI rfl o hT tf_drafted tj_drafted (lw_all_tbl q2638) dX11_write_27 (r32 rfl) ty_int ?_
    refine s_iconst o dX11_write_30 ?_
    refine r_istore_n o dX11_write_31 rfl rfl ⟨(Nat.ne_of_beq_eq_false rfl), (fun _ => (vA_cat (mg Γ) 21)), trivial⟩ ?_
    refine r_to [(0, vA (mg Γ) 21), (1, vI 2)] [1, 0] rfl ?_
    refine st_write_32 hT o _ ?_ 2 (r32 rfl)
    · refine s_aload_n o dX11_write_108 rfl 0 rfl ?_
      refine r_tgf vI rfl o hT tf_constructors tj_constructors (lw_all_tbl q2535) dX11_write_109 (fun v2 hv2 => ?_)
      refine s_iconst o dX11_write_112 ?_
      refine s_icmp_le (tgt := 128) o dX11_write_113 (by decide) hv2 (r32 rfl) ?_ ?_
      · exact st_write_128 hT o
      · refine s_aload_n o dX11_write_116 rfl 0 rfl ?_
        refine s_bipush o dX11_write_117 rfl ?_
        refine s_cv (d := d + 5) (C := "LazyForgeModel") (As := [vI 59]) (st := []) o (st_letters (mg Γ) (d + 5) h hT 59 (r32 rfl)) mw_X11_letters rfl (Or.inl (lw_all_tbl q3376)) (lw_all_tbl qs152) (lw_all_tbl q3378) (fun t => rc_t o hT t) wt_0 rfl dX11_write_119 rfl (rs := fun _ => []) (fun _ => rfl) (fun _ _ => ?_)
        refine s_aload_n o dX11_write_122 rfl 0 rfl ?_
        refine s_bipush o dX11_write_123 rfl ?_
        refine s_cv (d := d + 5) (C := "LazyForgeModel") (As := [vI 10]) (st := []) o (st_letters (mg Γ) (d + 5) h hT 10 (r32 rfl)) mw_X11_letters rfl (Or.inl (lw_all_tbl q3376)) (lw_all_tbl qs152) (lw_all_tbl q3378) (fun t => rc_t o hT t) wt_0 rfl dX11_write_125 rfl (rs := fun _ => []) (fun _ => rfl) (fun _ _ => ?_)
        exact st_write_128 hT o
  · refine s_iconst o dX11_write_23 ?_
    exact s_iret o rfl i_int (r32 rfl) dX11_write_24 (fun _ hh => hh)
noncomputable def t_write : Mo TS Int :=
  bnd (gs 88) fun v1 =>
  if v1 = 0 then
    t_write_13 1
  else
    t_write_13 0
theorem st_write (g : gC) (d : Nat) (h : CH) (hT : HT h) : SF g yX11_write (Cond.code yX11_write cX11_write 3 (Option.some Jvm.ClassFile.FieldType.int)) (Option.some Jvm.ClassFile.FieldType.int) (d + 6) [vA g 21] (fun t => (h, t)) (t_write) := by
  refine SF.of (lv := [(0, vA g 21)]) (by decide) (wt_A wt_0) rfl (by simp only [la_A, la_I, la_J, la_0]) (fun Γ hg hnm o => ?_)
  subst hg
  have o : Ok Γ "LazyForgeModel" cX11_write 3 (Option.some Jvm.ClassFile.FieldType.int) (d + 6) := o
  unfold t_write
  refine s_aload_n o dX11_write_0 rfl 0 rfl ?_
  refine s_aload_n o dX11_write_1 rfl 0 rfl ?_
  refine r_tgf vI rfl o hT tf_hasProgram tj_hasProgram (lw_all_tbl q2592) dX11_write_2 (fun v1 hv1 => ?_)
  refine s_if_eq (tgt := 12) o dX11_write_5 (by decide) (rZ hv1) ?_ ?_
  · refine s_iconst o dX11_write_12 ?_
    exact st_write_13 hT o 1 (Or.inr rfl)
  · refine s_iconst o dX11_write_8 ?_
    refine s_goto (tgt := 13) o dX11_write_9 (by decide) ?_
    exact st_write_13 hT o 0 (Or.inl rfl)
