/-! PRINTED: the twin, methods 81 to 102 -/
set_option maxRecDepth 100000
theorem dX11_readName_0 : decode cX11_readName 0 = .ok (.lconst 0, 1) := by decide +kernel
theorem dX11_readName_1 : decode cX11_readName 1 = .ok (.lstore_n 2, 1) := by decide +kernel
theorem dX11_readName_2 : decode cX11_readName 2 = .ok (.aload_n 0, 1) := by decide +kernel
theorem dX11_readName_3 : decode cX11_readName 3 = .ok (.aload_n 0, 1) := by decide +kernel
theorem dX11_readName_4 : decode cX11_readName 4 = .ok (.getfield 261, 3) := by decide +kernel
theorem dX11_readName_7 : decode cX11_readName 7 = .ok (.invokevirtual 264, 3) := by decide +kernel
theorem dX11_readName_10 : decode cX11_readName 10 = .ok (.invokestatic 268, 3) := by decide +kernel
theorem dX11_readName_13 : decode cX11_readName 13 = .ok (.ifCond .ne 28, 3) := by decide +kernel
theorem dX11_readName_16 : decode cX11_readName 16 = .ok (.aload_n 0, 1) := by decide +kernel
theorem dX11_readName_17 : decode cX11_readName 17 = .ok (.aload_n 0, 1) := by decide +kernel
theorem dX11_readName_18 : decode cX11_readName 18 = .ok (.getfield 261, 3) := by decide +kernel
theorem dX11_readName_21 : decode cX11_readName 21 = .ok (.invokevirtual 264, 3) := by decide +kernel
theorem dX11_readName_24 : decode cX11_readName 24 = .ok (.invokestatic 272, 3) := by decide +kernel
theorem dX11_readName_27 : decode cX11_readName 27 = .ok (.ifCond .ne 14, 3) := by decide +kernel
theorem dX11_readName_30 : decode cX11_readName 30 = .ok (.aload_n 0, 1) := by decide +kernel
theorem dX11_readName_31 : decode cX11_readName 31 = .ok (.getfield 261, 3) := by decide +kernel
theorem dX11_readName_34 : decode cX11_readName 34 = .ok (.aload_n 0, 1) := by decide +kernel
theorem dX11_readName_35 : decode cX11_readName 35 = .ok (.getfield 275, 3) := by decide +kernel
theorem dX11_readName_38 : decode cX11_readName 38 = .ok (.if_icmp .ne 49, 3) := by decide +kernel
theorem dX11_readName_41 : decode cX11_readName 41 = .ok (.aload_n 0, 1) := by decide +kernel
theorem dX11_readName_42 : decode cX11_readName 42 = .ok (.getfield 261, 3) := by decide +kernel
theorem dX11_readName_45 : decode cX11_readName 45 = .ok (.aload_n 0, 1) := by decide +kernel
theorem dX11_readName_46 : decode cX11_readName 46 = .ok (.getfield 275, 3) := by decide +kernel
theorem dX11_readName_49 : decode cX11_readName 49 = .ok (.isub, 1) := by decide +kernel
theorem dX11_readName_50 : decode cX11_readName 50 = .ok (.bipush 8, 2) := by decide +kernel
theorem dX11_readName_52 : decode cX11_readName 52 = .ok (.if_icmp .ge 20, 3) := by decide +kernel
theorem dX11_readName_55 : decode cX11_readName 55 = .ok (.lload_n 2, 1) := by decide +kernel
theorem dX11_readName_56 : decode cX11_readName 56 = .ok (.bipush 8, 2) := by decide +kernel
theorem dX11_readName_58 : decode cX11_readName 58 = .ok (.lshl, 1) := by decide +kernel
theorem dX11_readName_59 : decode cX11_readName 59 = .ok (.aload_n 0, 1) := by decide +kernel
theorem dX11_readName_60 : decode cX11_readName 60 = .ok (.aload_n 0, 1) := by decide +kernel
theorem dX11_readName_61 : decode cX11_readName 61 = .ok (.getfield 261, 3) := by decide +kernel
theorem dX11_readName_64 : decode cX11_readName 64 = .ok (.invokevirtual 264, 3) := by decide +kernel
theorem dX11_readName_67 : decode cX11_readName 67 = .ok (.i2l, 1) := by decide +kernel
theorem dX11_readName_68 : decode cX11_readName 68 = .ok (.lor, 1) := by decide +kernel
theorem dX11_readName_69 : decode cX11_readName 69 = .ok (.goto 4, 3) := by decide +kernel
theorem dX11_readName_72 : decode cX11_readName 72 = .ok (.lload_n 2, 1) := by decide +kernel
theorem dX11_readName_73 : decode cX11_readName 73 = .ok (.lstore_n 2, 1) := by decide +kernel
theorem dX11_readName_74 : decode cX11_readName 74 = .ok (.aload_n 0, 1) := by decide +kernel
theorem dX11_readName_75 : decode cX11_readName 75 = .ok (.dup, 1) := by decide +kernel
theorem dX11_readName_76 : decode cX11_readName 76 = .ok (.getfield 261, 3) := by decide +kernel
theorem dX11_readName_79 : decode cX11_readName 79 = .ok (.iconst 1, 1) := by decide +kernel
theorem dX11_readName_80 : decode cX11_readName 80 = .ok (.iadd, 1) := by decide +kernel
theorem dX11_readName_81 : decode cX11_readName 81 = .ok (.putfield 261, 3) := by decide +kernel
theorem dX11_readName_84 : decode cX11_readName 84 = .ok (.goto (-82), 3) := by decide +kernel
theorem dX11_readName_87 : decode cX11_readName 87 = .ok (.aload_n 0, 1) := by decide +kernel
theorem dX11_readName_88 : decode cX11_readName 88 = .ok (.lload_n 2, 1) := by decide +kernel
theorem dX11_readName_89 : decode cX11_readName 89 = .ok (.putfield 278, 3) := by decide +kernel
theorem dX11_readName_92 : decode cX11_readName 92 = .ok (.aload_n 0, 1) := by decide +kernel
theorem dX11_readName_93 : decode cX11_readName 93 = .ok (.aload_n 0, 1) := by decide +kernel
theorem dX11_readName_94 : decode cX11_readName 94 = .ok (.getfield 261, 3) := by decide +kernel
theorem dX11_readName_97 : decode cX11_readName 97 = .ok (.aload_n 0, 1) := by decide +kernel
theorem dX11_readName_98 : decode cX11_readName 98 = .ok (.getfield 275, 3) := by decide +kernel
theorem dX11_readName_101 : decode cX11_readName 101 = .ok (.isub, 1) := by decide +kernel
theorem dX11_readName_102 : decode cX11_readName 102 = .ok (.bipush 8, 2) := by decide +kernel
theorem dX11_readName_104 : decode cX11_readName 104 = .ok (.if_icmp .le 7, 3) := by decide +kernel
theorem dX11_readName_107 : decode cX11_readName 107 = .ok (.iconst 1, 1) := by decide +kernel
theorem dX11_readName_108 : decode cX11_readName 108 = .ok (.goto 15, 3) := by decide +kernel
theorem dX11_readName_111 : decode cX11_readName 111 = .ok (.iload_n 1, 1) := by decide +kernel
theorem dX11_readName_112 : decode cX11_readName 112 = .ok (.ifCond .eq 7, 3) := by decide +kernel
theorem dX11_readName_115 : decode cX11_readName 115 = .ok (.iconst 4, 1) := by decide +kernel
theorem dX11_readName_116 : decode cX11_readName 116 = .ok (.goto 7, 3) := by decide +kernel
theorem dX11_readName_119 : decode cX11_readName 119 = .ok (.lload_n 2, 1) := by decide +kernel
theorem dX11_readName_120 : decode cX11_readName 120 = .ok (.invokestatic 282, 3) := by decide +kernel
theorem dX11_readName_123 : decode cX11_readName 123 = .ok (.putfield 286, 3) := by decide +kernel
theorem dX11_readName_126 : decode cX11_readName 126 = .ok (.return_, 1) := by decide +kernel
theorem mw_X11_readName : MW yX11_readName (Cond.code yX11_readName cX11_readName 4 (Option.none : Option Jvm.ClassFile.FieldType)) cX11_readName 4 (Option.none : Option Jvm.ClassFile.FieldType) 1 := ⟨rfl, ⟨(lw_all_tbl q2953), rfl, (lw_all_tbl q173)⟩, rfl, ⟨by decide, by decide⟩, by decide +kernel⟩
abbrev okt_readName_2 (x : Int × Int) : Prop := rg .boolean x.1 ∧ R64 x.2
abbrev lvt_readName_2 (Γ : Gm) (x : Int × Int) : List (Nat × Value) := [(0, vA (mg Γ) 21), (1, vI x.1), (2, vJ x.2)]
noncomputable def t_readName_73 {A : Type} (k_87 : Int → Int → Mo TS A) (l1 : Int) (k0 : Int) : Mo TS ((Int × Int) ⊕ A) :=
  bnd (gs 5) fun v1 =>
  bnd (ss 5 (w32 (v1 + 1))) fun _ =>
  pr (.inl (l1, k0))
theorem st_readName_73 {Γ : Gm} {h : CH} {d : Nat} (hT : HT h) (o : Ok Γ "LazyForgeModel" cX11_readName 4 (Option.none : Option Jvm.ClassFile.FieldType) (d + 2)) {A : Type} {K : A → TS → Prop}  (k_87 : Int → Int → Mo TS A) (hk_87 : ∀ (l1 : Int) (l2 : Int), rg .boolean l1 → R64 l2 → Sx Γ (fun t => (h, t)) K 87 [(0, vA (mg Γ) 21), (1, vI l1), (2, vJ l2)] [] (k_87 l1 l2)) (l1 : Int) (k0 : Int) (hl1 : rg .boolean l1) (hk0 : R64 k0) : Sx Γ (fun t => (h, t)) (KL Γ (fun t => (h, t)) okt_readName_2 K 2 (lvt_readName_2 Γ) []) 73 [(0, vA (mg Γ) 21), (1, vI l1)] [vJ k0] (t_readName_73 k_87 l1 k0) := by
  unfold t_readName_73
  refine r_lstore_n o dX11_readName_73 rfl rfl ⟨(Nat.ne_of_beq_eq_false rfl), (Nat.ne_of_beq_eq_false rfl), (fun _ => (vA_cat (mg Γ) 21)), ⟨(Nat.ne_of_beq_eq_false rfl), (Nat.ne_of_beq_eq_false rfl), (fun _ => rfl), trivial⟩⟩ ?_
  refine s_aload_n o dX11_readName_74 rfl 1 rfl ?_
  refine s_dup o dX11_readName_75 (vA_cat (mg Γ) 21) ?_
  refine r_tgf vI rfl o hT tf_at tj_at (lw_all_tbl q2509) dX11_readName_76 (fun v1 hv1 => ?_)
  refine s_iconst o dX11_readName_79 ?_
  refine s_iadd o dX11_readName_80 ?_
  refine r_tpf vI rfl o hT tf_at tj_at (lw_all_tbl q2509) dX11_readName_81 (w32_R _) ty_int ?_
  refine s_goto (tgt := 2) o dX11_readName_84 (by decide) ?_
  refine r_to [(0, vA (mg Γ) 21), (1, vI l1), (2, vJ k0)] [1, 2, 0] rfl ?_
  exact s_back (⟨hl1, hk0⟩) rfl
noncomputable def t_readName_41 {A : Type} (k_87 : Int → Int → Mo TS A) (l1 : Int) (l2 : Int) : Mo TS ((Int × Int) ⊕ A) :=
  bnd (gs 5) fun v1 =>
  bnd (gs 7) fun v2 =>
  if 8 ≤ (w32 (v1 - v2)) then
    t_readName_73 k_87 l1 l2
  else
    bnd (gs 5) fun v3 =>
    bnd (t_sign v3) fun v4 =>
    t_readName_73 k_87 l1 (lor (lshl l2 8) v4)
theorem st_readName_41 {Γ : Gm} {h : CH} {d : Nat} (hT : HT h) (o : Ok Γ "LazyForgeModel" cX11_readName 4 (Option.none : Option Jvm.ClassFile.FieldType) (d + 2)) {A : Type} {K : A → TS → Prop}  (k_87 : Int → Int → Mo TS A) (hk_87 : ∀ (l1 : Int) (l2 : Int), rg .boolean l1 → R64 l2 → Sx Γ (fun t => (h, t)) K 87 [(0, vA (mg Γ) 21), (1, vI l1), (2, vJ l2)] [] (k_87 l1 l2)) (l1 : Int) (l2 : Int) (hl1 : rg .boolean l1) (hl2 : R64 l2) : Sx Γ (fun t => (h, t)) (KL Γ (fun t => (h, t)) okt_readName_2 K 2 (lvt_readName_2 Γ) []) 41 [(0, vA (mg Γ) 21), (1, vI l1), (2, vJ l2)] [] (t_readName_41 k_87 l1 l2) := by
  unfold t_readName_41
  refine s_aload_n o dX11_readName_41 rfl 0 rfl ?_
  refine r_tgf vI rfl o hT tf_at tj_at (lw_all_tbl q2509) dX11_readName_42 (fun v1 hv1 => ?_)
  refine s_aload_n o dX11_readName_45 rfl 0 rfl ?_
  refine r_tgf vI rfl o hT tf_wordPlace tj_wordPlace (lw_all_tbl q2511) dX11_readName_46 (fun v2 hv2 => ?_)
  refine s_isub o dX11_readName_49 ?_
  refine s_bipush o dX11_readName_50 rfl ?_
  refine s_icmp_ge (tgt := 72) o dX11_readName_52 (by decide) (w32_R _) (r32 rfl) ?_ ?_
  · refine s_lload_n o dX11_readName_72 rfl 2 rfl ?_
    refine r_to [(0, vA (mg Γ) 21), (1, vI l1)] [0, 1] rfl ?_
    exact st_readName_73 hT o k_87 hk_87 l1 l2 hl1 hl2
  · refine s_lload_n o dX11_readName_55 rfl 2 rfl ?_
    refine s_bipush o dX11_readName_56 rfl ?_
    refine s_lshl o dX11_readName_58 ?_
    refine s_aload_n o dX11_readName_59 rfl 0 rfl ?_
    refine s_aload_n o dX11_readName_60 rfl 0 rfl ?_
    refine r_tgf vI rfl o hT tf_at tj_at (lw_all_tbl q2509) dX11_readName_61 (fun v3 hv3 => ?_)
    refine s_cv (d := d + 1) (C := "LazyForgeModel") (As := [vI v3]) (st := [vJ (lshl l2 8)]) o (st_sign (mg Γ) (d + 1) h hT v3 hv3) mw_X11_sign rfl (Or.inl (lw_all_tbl q2940)) (lw_all_tbl qs59) (lw_all_tbl q2942) (fun t => rc_t o hT t) (wt_J wt_0) rfl dX11_readName_64 rfl (rs := fun r => [vI r, vJ (lshl l2 8)]) (fun _ => rfl) (fun v4 hv4 => ?_)
    refine s_i2l o dX11_readName_67 (hv4 _ rfl) ?_
    refine s_lor o dX11_readName_68 ?_
    refine s_goto (tgt := 73) o dX11_readName_69 (by decide) ?_
    refine r_to [(0, vA (mg Γ) 21), (1, vI l1)] [0, 1] rfl ?_
    exact st_readName_73 hT o k_87 hk_87 l1 (lor (lshl l2 8) v4) hl1 (lor_R _ _)
noncomputable def t_readName_2b {A : Type} (k_87 : Int → Int → Mo TS A) (l1 : Int) (l2 : Int) : Mo TS ((Int × Int) ⊕ A) :=
  bnd (gs 5) fun v1 =>
  bnd (t_sign v1) fun v2 =>
  bnd (t_isSmall v2) fun v3 =>
  if ¬ v3 = 0 then
    t_readName_41 k_87 l1 l2
  else
    bnd (gs 5) fun v4 =>
    bnd (t_sign v4) fun v5 =>
    bnd (t_isDigit v5) fun v6 =>
    if ¬ v6 = 0 then
      t_readName_41 k_87 l1 l2
    else
      bnd (gs 5) fun v7 =>
      bnd (gs 7) fun v8 =>
      if ¬ v7 = v8 then
        lo (k_87 l1 l2)
      else
        t_readName_41 k_87 l1 l2
theorem st_readName_2b {Γ : Gm} {h : CH} {d : Nat} (hT : HT h) (o : Ok Γ "LazyForgeModel" cX11_readName 4 (Option.none : Option Jvm.ClassFile.FieldType) (d + 2)) {A : Type} {K : A → TS → Prop} (k_87 : Int → Int → Mo TS A) (hk_87 : ∀ (l1 : Int) (l2 : Int), rg .boolean l1 → R64 l2 → Sx Γ (fun t => (h, t)) K 87 [(0, vA (mg Γ) 21), (1, vI l1), (2, vJ l2)] [] (k_87 l1 l2)) (l1 : Int) (l2 : Int) (hl1 : rg .boolean l1) (hl2 : R64 l2) : Sx Γ (fun t => (h, t)) (KL Γ (fun t => (h, t)) okt_readName_2 K 2 (lvt_readName_2 Γ) []) 2 [(0, vA (mg Γ) 21), (1, vI l1), (2, vJ l2)] [] (t_readName_2b k_87 l1 l2) := by
  unfold t_readName_2b
  refine s_aload_n o dX11_readName_2 rfl 0 rfl ?_
  refine s_aload_n o dX11_readName_3 rfl 0 rfl ?_
  refine r_tgf vI rfl o hT tf_at tj_at (lw_all_tbl q2509) dX11_readName_4 (fun v1 hv1 => ?_)
  refine s_cv (d := d + 1) (C := "LazyForgeModel") (As := [vI v1]) (st := []) o (st_sign (mg Γ) (d + 1) h hT v1 hv1) mw_X11_sign rfl (Or.inl (lw_all_tbl q2940)) (lw_all_tbl qs59) (lw_all_tbl q2942) (fun t => rc_t o hT t) wt_0 rfl dX11_readName_7 rfl (rs := fun r => [vI r]) (fun _ => rfl) (fun v2 hv2 => ?_)
  refine s_cs (d := d + 1) (As := [vI v2]) (st := []) o (st_isSmall (mg Γ) (d + 1) h v2 (hv2 _ rfl)) mw_X11_isSmall rfl (Or.inl (lw_all_tbl q2944)) (lw_all_tbl q2945) wt_0 rfl dX11_readName_10 rfl (rs := fun r => [vI r]) (fun _ => rfl) (fun v3 hv3 => ?_)
  refine s_if_ne (tgt := 41) o dX11_readName_13 (by decide) (rZ (hv3 _ rfl)) ?_ ?_
  · exact st_readName_41 hT o k_87 hk_87 l1 l2 hl1 hl2
  · refine s_aload_n o dX11_readName_16 rfl 0 rfl ?_
    refine s_aload_n o dX11_readName_17 rfl 0 rfl ?_
    refine r_tgf vI rfl o hT tf_at tj_at (lw_all_tbl q2509) dX11_readName_18 (fun v4 hv4 => ?_)
    refine s_cv (d := d + 1) (C := "LazyForgeModel") (As := [vI v4]) (st := []) o (st_sign (mg Γ) (d + 1) h hT v4 hv4) mw_X11_sign rfl (Or.inl (lw_all_tbl q2940)) (lw_all_tbl qs59) (lw_all_tbl q2942) (fun t => rc_t o hT t) wt_0 rfl dX11_readName_21 rfl (rs := fun r => [vI r]) (fun _ => rfl) (fun v5 hv5 => ?_)
    refine s_cs (d := d + 1) (As := [vI v5]) (st := []) o (st_isDigit (mg Γ) (d + 1) h v5 (hv5 _ rfl)) mw_X11_isDigit rfl (Or.inl (lw_all_tbl q2954)) (lw_all_tbl q2955) wt_0 rfl dX11_readName_24 rfl (rs := fun r => [vI r]) (fun _ => rfl) (fun v6 hv6 => ?_)
    refine s_if_ne (tgt := 41) o dX11_readName_27 (by decide) (rZ (hv6 _ rfl)) ?_ ?_
    · exact st_readName_41 hT o k_87 hk_87 l1 l2 hl1 hl2
    · refine s_aload_n o dX11_readName_30 rfl 0 rfl ?_
      refine r_tgf vI rfl o hT tf_at tj_at (lw_all_tbl q2509) dX11_readName_31 (fun v7 hv7 => ?_)
      refine s_aload_n o dX11_readName_34 rfl 0 rfl ?_
      refine r_tgf vI rfl o hT tf_wordPlace tj_wordPlace (lw_all_tbl q2511) dX11_readName_35 (fun v8 hv8 => ?_)
      refine s_icmp_ne (tgt := 87) o dX11_readName_38 (by decide) hv7 hv8 ?_ ?_
      · exact s_lo (hk_87 l1 l2 hl1 hl2)
      · exact st_readName_41 hT o k_87 hk_87 l1 l2 hl1 hl2
noncomputable def t_readName_2 {A : Type} (k_87 : Int → Int → Mo TS A) (l1 : Int) (l2 : Int) : Mo TS A := Loop (fun x => t_readName_2b k_87 x.1 x.2) (l1, l2)
theorem st_readName_2 {Γ : Gm} {h : CH} {d : Nat} (hT : HT h) (o : Ok Γ "LazyForgeModel" cX11_readName 4 (Option.none : Option Jvm.ClassFile.FieldType) (d + 2)) {A : Type} {K : A → TS → Prop} (k_87 : Int → Int → Mo TS A) (hk_87 : ∀ (l1 : Int) (l2 : Int), rg .boolean l1 → R64 l2 → Sx Γ (fun t => (h, t)) K 87 [(0, vA (mg Γ) 21), (1, vI l1), (2, vJ l2)] [] (k_87 l1 l2)) (l1 : Int) (l2 : Int) (hl1 : rg .boolean l1) (hl2 : R64 l2) : Sx Γ (fun t => (h, t)) K 2 [(0, vA (mg Γ) 21), (1, vI l1), (2, vJ l2)] [] (t_readName_2 k_87 l1 l2) :=
  s_loop okt_readName_2 (lvt_readName_2 Γ) (fun x hx => st_readName_2b hT o k_87 hk_87 x.1 x.2 hx.1 hx.2) (x := (l1, l2)) ⟨hl1, hl2⟩
noncomputable def t_readName_123  (k0 : Int) : Mo TS Int :=
  bnd (ss 6 k0) fun _ =>
  pr 0
theorem st_readName_123 {Γ : Gm} {h : CH} {d : Nat} (hT : HT h) (o : Ok Γ "LazyForgeModel" cX11_readName 4 (Option.none : Option Jvm.ClassFile.FieldType) (d + 2))   (k0 : Int) (hk0 : R32 k0) : Sx Γ (fun t => (h, t)) (fun a s => mt Γ = (0, a, ((h, s) : Wd))) 123 [] [vI k0, vA (mg Γ) 21] (t_readName_123 k0) := by
  unfold t_readName_123
  refine r_tpf vI rfl o hT tf_word tj_word (lw_all_tbl q2510) dX11_readName_123 hk0 ty_int ?_
  exact s_vret o rfl dX11_readName_126 (fun _ hh => hh)
noncomputable def t_readName (l1 : Int) : Mo TS Int :=
  t_readName_2
    (fun v1 v2 => bnd (ss 8 v2) fun _ =>
  bnd (gs 5) fun v3 =>
  bnd (gs 7) fun v4 =>
  if (w32 (v3 - v4)) ≤ 8 then
    if v1 = 0 then
      bnd (t_keyword v2) fun v5 =>
      t_readName_123 v5
    else
      t_readName_123 4
  else
    t_readName_123 1) l1 0
theorem st_readName (g : gC) (d : Nat) (h : CH) (hT : HT h) (l1 : Int) (hl1 : rg .boolean l1) : SF g yX11_readName (Cond.code yX11_readName cX11_readName 4 (Option.none : Option Jvm.ClassFile.FieldType)) (Option.none : Option Jvm.ClassFile.FieldType) (d + 2) [vA g 21, vI l1] (fun t => (h, t)) (t_readName l1) := by
  refine SF.of (lv := [(0, vA g 21), (1, vI l1)]) (by decide) (wt_A (wt_I wt_0)) rfl (by simp only [la_A, la_I, la_J, la_0]) (fun Γ hg hnm o => ?_)
  subst hg
  have o : Ok Γ "LazyForgeModel" cX11_readName 4 (Option.none : Option Jvm.ClassFile.FieldType) (d + 2) := o
  unfold t_readName
  refine s_lconst (x := 0) o dX11_readName_0 rfl ?_
  refine r_lstore_n o dX11_readName_1 rfl rfl ⟨(Nat.ne_of_beq_eq_false rfl), (Nat.ne_of_beq_eq_false rfl), (fun _ => (vA_cat (mg Γ) 21)), ⟨(Nat.ne_of_beq_eq_false rfl), (Nat.ne_of_beq_eq_false rfl), (fun _ => rfl), trivial⟩⟩ ?_
  refine r_to [(0, vA (mg Γ) 21), (1, vI l1), (2, vJ 0)] [1, 2, 0] rfl ?_
  refine st_readName_2 hT o _ ?_ l1 0 hl1 (r64 rfl)
  · intro v1 v2 hv1 hv2
    refine s_aload_n o dX11_readName_87 rfl 0 rfl ?_
    refine s_lload_n o dX11_readName_88 rfl 2 rfl ?_
    refine r_tpf vJ rfl o hT tf_wordName tj_wordName (lw_all_tbl q2512) dX11_readName_89 hv2 ty_long ?_
    refine s_aload_n o dX11_readName_92 rfl 0 rfl ?_
    refine s_aload_n o dX11_readName_93 rfl 0 rfl ?_
    refine r_tgf vI rfl o hT tf_at tj_at (lw_all_tbl q2509) dX11_readName_94 (fun v3 hv3 => ?_)
    refine s_aload_n o dX11_readName_97 rfl 0 rfl ?_
    refine r_tgf vI rfl o hT tf_wordPlace tj_wordPlace (lw_all_tbl q2511) dX11_readName_98 (fun v4 hv4 => ?_)
    refine s_isub o dX11_readName_101 ?_
    refine s_bipush o dX11_readName_102 rfl ?_
    refine s_icmp_le (tgt := 111) o dX11_readName_104 (by decide) (w32_R _) (r32 rfl) ?_ ?_
    · refine s_iload_n o dX11_readName_111 rfl 1 rfl ?_
      refine s_if_eq (tgt := 119) o dX11_readName_112 (by decide) (rZ hv1) ?_ ?_
      · refine s_lload_n o dX11_readName_119 rfl 2 rfl ?_
        refine s_cs (d := d + 1) (As := [vJ v2]) (st := [vA (mg Γ) 21]) o (st_keyword (mg Γ) d h v2 hv2) mw_X11_keyword rfl (Or.inl (lw_all_tbl q2957)) (lw_all_tbl q2958) (wt_A wt_0) rfl dX11_readName_120 rfl (rs := fun r => [vI r, vA (mg Γ) 21]) (fun _ => rfl) (fun v5 hv5 => ?_)
        refine r_to [] [] rfl ?_
        exact st_readName_123 hT o v5 (hv5 _ rfl)
      · refine s_iconst o dX11_readName_115 ?_
        refine s_goto (tgt := 123) o dX11_readName_116 (by decide) ?_
        refine r_to [] [] rfl ?_
        exact st_readName_123 hT o 4 (r32 rfl)
    · refine s_iconst o dX11_readName_107 ?_
      refine s_goto (tgt := 123) o dX11_readName_108 (by decide) ?_
      refine r_to [] [] rfl ?_
      exact st_readName_123 hT o 1 (r32 rfl)
theorem dX11_opens_0 : decode cX11_opens 0 = .ok (.aload_n 0, 1) := by decide +kernel
theorem dX11_opens_1 : decode cX11_opens 1 = .ok (.getfield 339, 3) := by decide +kernel
theorem dX11_opens_4 : decode cX11_opens 4 = .ok (.bipush 30, 2) := by decide +kernel
theorem dX11_opens_6 : decode cX11_opens 6 = .ok (.if_icmp .ne 7, 3) := by decide +kernel
theorem dX11_opens_9 : decode cX11_opens 9 = .ok (.aload_n 0, 1) := by decide +kernel
theorem dX11_opens_10 : decode cX11_opens 10 = .ok (.invokevirtual 324, 3) := by decide +kernel
theorem dX11_opens_13 : decode cX11_opens 13 = .ok (.aload_n 0, 1) := by decide +kernel
theorem dX11_opens_14 : decode cX11_opens 14 = .ok (.dup, 1) := by decide +kernel
theorem dX11_opens_15 : decode cX11_opens 15 = .ok (.getfield 339, 3) := by decide +kernel
theorem dX11_opens_18 : decode cX11_opens 18 = .ok (.iconst 1, 1) := by decide +kernel
theorem dX11_opens_19 : decode cX11_opens 19 = .ok (.iadd, 1) := by decide +kernel
theorem dX11_opens_20 : decode cX11_opens 20 = .ok (.putfield 339, 3) := by decide +kernel
theorem dX11_opens_23 : decode cX11_opens 23 = .ok (.return_, 1) := by decide +kernel
theorem mw_X11_opens : MW yX11_opens (Cond.code yX11_opens cX11_opens 1 (Option.none : Option Jvm.ClassFile.FieldType)) cX11_opens 1 (Option.none : Option Jvm.ClassFile.FieldType) 0 := ⟨rfl, ⟨(lw_all_tbl q3034), rfl, (lw_all_tbl q173)⟩, rfl, ⟨by decide, by decide⟩, by decide +kernel⟩
noncomputable def t_opens_13  : Mo TS Int :=
  bnd (gs 34) fun v1 =>
  bnd (ss 34 (w32 (v1 + 1))) fun _ =>
  pr 0
theorem st_opens_13 {Γ : Gm} {h : CH} {d : Nat} (hT : HT h) (o : Ok Γ "LazyForgeModel" cX11_opens 1 (Option.none : Option Jvm.ClassFile.FieldType) (d + 2))   : Sx Γ (fun t => (h, t)) (fun a s => mt Γ = (0, a, ((h, s) : Wd))) 13 [(0, vA (mg Γ) 21)] [] (t_opens_13) := by
  unfold t_opens_13
  refine s_aload_n o dX11_opens_13 rfl 0 rfl ?_
  refine s_dup o dX11_opens_14 (vA_cat (mg Γ) 21) ?_
  refine r_tgf vI rfl o hT tf_open tj_open (lw_all_tbl q2538) dX11_opens_15 (fun v1 hv1 => ?_)
  refine s_iconst o dX11_opens_18 ?_
  refine s_iadd o dX11_opens_19 ?_
  refine r_tpf vI rfl o hT tf_open tj_open (lw_all_tbl q2538) dX11_opens_20 (w32_R _) ty_int ?_
  exact s_vret o rfl dX11_opens_23 (fun _ hh => hh)
noncomputable def t_opens : Mo TS Int :=
  bnd (gs 34) fun v1 =>
  if ¬ v1 = 30 then
    t_opens_13
  else
    bnd (t_wrong) fun _ =>
    t_opens_13
theorem st_opens (g : gC) (d : Nat) (h : CH) (hT : HT h) : SF g yX11_opens (Cond.code yX11_opens cX11_opens 1 (Option.none : Option Jvm.ClassFile.FieldType)) (Option.none : Option Jvm.ClassFile.FieldType) (d + 2) [vA g 21] (fun t => (h, t)) (t_opens) := by
  refine SF.of (lv := [(0, vA g 21)]) (by decide) (wt_A wt_0) rfl (by simp only [la_A, la_I, la_J, la_0]) (fun Γ hg hnm o => ?_)
  subst hg
  have o : Ok Γ "LazyForgeModel" cX11_opens 1 (Option.none : Option Jvm.ClassFile.FieldType) (d + 2) := o
  unfold t_opens
  refine s_aload_n o dX11_opens_0 rfl 0 rfl ?_
  refine r_tgf vI rfl o hT tf_open tj_open (lw_all_tbl q2538) dX11_opens_1 (fun v1 hv1 => ?_)
  refine s_bipush o dX11_opens_4 rfl ?_
  refine s_icmp_ne (tgt := 13) o dX11_opens_6 (by decide) hv1 (r32 rfl) ?_ ?_
  · exact st_opens_13 hT o
  · refine s_aload_n o dX11_opens_9 rfl 0 rfl ?_
    refine s_cv (d := d + 1) (C := "LazyForgeModel") (As := []) (st := []) o (st_wrong (mg Γ) d h hT) mw_X11_wrong rfl (Or.inl (lw_all_tbl q2983)) (lw_all_tbl qs66) (lw_all_tbl q2985) (fun t => rc_t o hT t) wt_0 rfl dX11_opens_10 rfl (rs := fun _ => []) (fun _ => rfl) (fun _ _ => ?_)
    exact st_opens_13 hT o
theorem dX11_tooDeep_0 : decode cX11_tooDeep 0 = .ok (.aload_n 0, 1) := by decide +kernel
theorem dX11_tooDeep_1 : decode cX11_tooDeep 1 = .ok (.bipush 40, 2) := by decide +kernel
theorem dX11_tooDeep_3 : decode cX11_tooDeep 3 = .ok (.invokevirtual 383, 3) := by decide +kernel
theorem dX11_tooDeep_6 : decode cX11_tooDeep 6 = .ok (.ifCond .eq 16, 3) := by decide +kernel
theorem dX11_tooDeep_9 : decode cX11_tooDeep 9 = .ok (.aload_n 0, 1) := by decide +kernel
theorem dX11_tooDeep_10 : decode cX11_tooDeep 10 = .ok (.getfield 339, 3) := by decide +kernel
theorem dX11_tooDeep_13 : decode cX11_tooDeep 13 = .ok (.bipush 30, 2) := by decide +kernel
theorem dX11_tooDeep_15 : decode cX11_tooDeep 15 = .ok (.if_icmp .ne 7, 3) := by decide +kernel
theorem dX11_tooDeep_18 : decode cX11_tooDeep 18 = .ok (.aload_n 0, 1) := by decide +kernel
theorem dX11_tooDeep_19 : decode cX11_tooDeep 19 = .ok (.invokevirtual 324, 3) := by decide +kernel
theorem dX11_tooDeep_22 : decode cX11_tooDeep 22 = .ok (.return_, 1) := by decide +kernel
theorem mw_X11_tooDeep : MW yX11_tooDeep (Cond.code yX11_tooDeep cX11_tooDeep 1 (Option.none : Option Jvm.ClassFile.FieldType)) cX11_tooDeep 1 (Option.none : Option Jvm.ClassFile.FieldType) 0 := ⟨rfl, ⟨(lw_all_tbl q3058), rfl, (lw_all_tbl q173)⟩, rfl, ⟨by decide, by decide⟩, by decide +kernel⟩
noncomputable def t_tooDeep : Mo TS Int :=
  bnd (t_isSign 40) fun v1 =>
  if v1 = 0 then
    pr 0
  else
    bnd (gs 34) fun v2 =>
    if ¬ v2 = 30 then
      pr 0
    else
      bnd (t_wrong) fun _ =>
      pr 0
theorem st_tooDeep (g : gC) (d : Nat) (h : CH) (hT : HT h) : SF g yX11_tooDeep (Cond.code yX11_tooDeep cX11_tooDeep 1 (Option.none : Option Jvm.ClassFile.FieldType)) (Option.none : Option Jvm.ClassFile.FieldType) (d + 2) [vA g 21] (fun t => (h, t)) (t_tooDeep) := by
  refine SF.of (lv := [(0, vA g 21)]) (by decide) (wt_A wt_0) rfl (by simp only [la_A, la_I, la_J, la_0]) (fun Γ hg hnm o => ?_)
  subst hg
  have o : Ok Γ "LazyForgeModel" cX11_tooDeep 1 (Option.none : Option Jvm.ClassFile.FieldType) (d + 2) := o
  unfold t_tooDeep
  refine s_aload_n o dX11_tooDeep_0 rfl 0 rfl ?_
  refine s_bipush o dX11_tooDeep_1 rfl ?_
  refine s_cv (d := d + 1) (C := "LazyForgeModel") (As := [vI 40]) (st := []) o (st_isSign (mg Γ) (d + 1) h hT 40 (r32 rfl)) mw_X11_isSign rfl (Or.inl (lw_all_tbl q2987)) (lw_all_tbl qs67) (lw_all_tbl q2989) (fun t => rc_t o hT t) wt_0 rfl dX11_tooDeep_3 rfl (rs := fun r => [vI r]) (fun _ => rfl) (fun v1 hv1 => ?_)
  refine s_if_eq (tgt := 22) o dX11_tooDeep_6 (by decide) (rZ (hv1 _ rfl)) ?_ ?_
  · exact s_vret o rfl dX11_tooDeep_22 (fun _ hh => hh)
  · refine s_aload_n o dX11_tooDeep_9 rfl 0 rfl ?_
    refine r_tgf vI rfl o hT tf_open tj_open (lw_all_tbl q2538) dX11_tooDeep_10 (fun v2 hv2 => ?_)
    refine s_bipush o dX11_tooDeep_13 rfl ?_
    refine s_icmp_ne (tgt := 22) o dX11_tooDeep_15 (by decide) hv2 (r32 rfl) ?_ ?_
    · exact s_vret o rfl dX11_tooDeep_22 (fun _ hh => hh)
    · refine s_aload_n o dX11_tooDeep_18 rfl 0 rfl ?_
      refine s_cv (d := d + 1) (C := "LazyForgeModel") (As := []) (st := []) o (st_wrong (mg Γ) d h hT) mw_X11_wrong rfl (Or.inl (lw_all_tbl q2983)) (lw_all_tbl qs66) (lw_all_tbl q2985) (fun t => rc_t o hT t) wt_0 rfl dX11_tooDeep_19 rfl (rs := fun _ => []) (fun _ => rfl) (fun _ _ => ?_)
      exact s_vret o rfl dX11_tooDeep_22 (fun _ hh => hh)
theorem dX11_comeInto_0 : decode cX11_comeInto 0 = .ok (.aload_n 0, 1) := by decide +kernel
theorem dX11_comeInto_1 : decode cX11_comeInto 1 = .ok (.getfield 80, 3) := by decide +kernel
theorem dX11_comeInto_4 : decode cX11_comeInto 4 = .ok (.iload_n 1, 1) := by decide +kernel
theorem dX11_comeInto_5 : decode cX11_comeInto 5 = .ok (.iaload, 1) := by decide +kernel
theorem dX11_comeInto_6 : decode cX11_comeInto 6 = .ok (.ifCond .lt 28, 3) := by decide +kernel
theorem dX11_comeInto_9 : decode cX11_comeInto 9 = .ok (.aload_n 0, 1) := by decide +kernel
theorem dX11_comeInto_10 : decode cX11_comeInto 10 = .ok (.getfield 107, 3) := by decide +kernel
theorem dX11_comeInto_13 : decode cX11_comeInto 13 = .ok (.aload_n 0, 1) := by decide +kernel
theorem dX11_comeInto_14 : decode cX11_comeInto 14 = .ok (.getfield 477, 3) := by decide +kernel
theorem dX11_comeInto_17 : decode cX11_comeInto 17 = .ok (.aload_n 0, 1) := by decide +kernel
theorem dX11_comeInto_18 : decode cX11_comeInto 18 = .ok (.getfield 80, 3) := by decide +kernel
theorem dX11_comeInto_21 : decode cX11_comeInto 21 = .ok (.iload_n 1, 1) := by decide +kernel
theorem dX11_comeInto_22 : decode cX11_comeInto 22 = .ok (.iaload, 1) := by decide +kernel
theorem dX11_comeInto_23 : decode cX11_comeInto 23 = .ok (.iastore, 1) := by decide +kernel
theorem dX11_comeInto_24 : decode cX11_comeInto 24 = .ok (.aload_n 0, 1) := by decide +kernel
theorem dX11_comeInto_25 : decode cX11_comeInto 25 = .ok (.dup, 1) := by decide +kernel
theorem dX11_comeInto_26 : decode cX11_comeInto 26 = .ok (.getfield 477, 3) := by decide +kernel
theorem dX11_comeInto_29 : decode cX11_comeInto 29 = .ok (.iconst 1, 1) := by decide +kernel
theorem dX11_comeInto_30 : decode cX11_comeInto 30 = .ok (.iadd, 1) := by decide +kernel
theorem dX11_comeInto_31 : decode cX11_comeInto 31 = .ok (.putfield 477, 3) := by decide +kernel
theorem dX11_comeInto_34 : decode cX11_comeInto 34 = .ok (.aload_n 0, 1) := by decide +kernel
theorem dX11_comeInto_35 : decode cX11_comeInto 35 = .ok (.getfield 16, 3) := by decide +kernel
theorem dX11_comeInto_38 : decode cX11_comeInto 38 = .ok (.iload_n 1, 1) := by decide +kernel
theorem dX11_comeInto_39 : decode cX11_comeInto 39 = .ok (.iaload, 1) := by decide +kernel
theorem dX11_comeInto_40 : decode cX11_comeInto 40 = .ok (.ifCond .ne 48, 3) := by decide +kernel
theorem dX11_comeInto_43 : decode cX11_comeInto 43 = .ok (.aload_n 0, 1) := by decide +kernel
theorem dX11_comeInto_44 : decode cX11_comeInto 44 = .ok (.getfield 98, 3) := by decide +kernel
theorem dX11_comeInto_47 : decode cX11_comeInto 47 = .ok (.iload_n 1, 1) := by decide +kernel
theorem dX11_comeInto_48 : decode cX11_comeInto 48 = .ok (.aload_n 0, 1) := by decide +kernel
theorem dX11_comeInto_49 : decode cX11_comeInto 49 = .ok (.getfield 474, 3) := by decide +kernel
theorem dX11_comeInto_52 : decode cX11_comeInto 52 = .ok (.iastore, 1) := by decide +kernel
theorem dX11_comeInto_53 : decode cX11_comeInto 53 = .ok (.aload_n 0, 1) := by decide +kernel
theorem dX11_comeInto_54 : decode cX11_comeInto 54 = .ok (.getfield 19, 3) := by decide +kernel
theorem dX11_comeInto_57 : decode cX11_comeInto 57 = .ok (.iload_n 1, 1) := by decide +kernel
theorem dX11_comeInto_58 : decode cX11_comeInto 58 = .ok (.iaload, 1) := by decide +kernel
theorem dX11_comeInto_59 : decode cX11_comeInto 59 = .ok (.istore_n 2, 1) := by decide +kernel
theorem dX11_comeInto_60 : decode cX11_comeInto 60 = .ok (.iload_n 2, 1) := by decide +kernel
theorem dX11_comeInto_61 : decode cX11_comeInto 61 = .ok (.ifCond .lt 24, 3) := by decide +kernel
theorem dX11_comeInto_64 : decode cX11_comeInto 64 = .ok (.aload_n 0, 1) := by decide +kernel
theorem dX11_comeInto_65 : decode cX11_comeInto 65 = .ok (.aload_n 0, 1) := by decide +kernel
theorem dX11_comeInto_66 : decode cX11_comeInto 66 = .ok (.getfield 37, 3) := by decide +kernel
theorem dX11_comeInto_69 : decode cX11_comeInto 69 = .ok (.iload_n 2, 1) := by decide +kernel
theorem dX11_comeInto_70 : decode cX11_comeInto 70 = .ok (.laload, 1) := by decide +kernel
theorem dX11_comeInto_71 : decode cX11_comeInto 71 = .ok (.invokevirtual 483, 3) := by decide +kernel
theorem dX11_comeInto_74 : decode cX11_comeInto 74 = .ok (.pop, 1) := by decide +kernel
theorem dX11_comeInto_75 : decode cX11_comeInto 75 = .ok (.aload_n 0, 1) := by decide +kernel
theorem dX11_comeInto_76 : decode cX11_comeInto 76 = .ok (.getfield 25, 3) := by decide +kernel
theorem dX11_comeInto_79 : decode cX11_comeInto 79 = .ok (.iload_n 2, 1) := by decide +kernel
theorem dX11_comeInto_80 : decode cX11_comeInto 80 = .ok (.iaload, 1) := by decide +kernel
theorem dX11_comeInto_81 : decode cX11_comeInto 81 = .ok (.istore_n 2, 1) := by decide +kernel
theorem dX11_comeInto_82 : decode cX11_comeInto 82 = .ok (.goto (-22), 3) := by decide +kernel
theorem dX11_comeInto_85 : decode cX11_comeInto 85 = .ok (.goto 27, 3) := by decide +kernel
theorem dX11_comeInto_88 : decode cX11_comeInto 88 = .ok (.aload_n 0, 1) := by decide +kernel
theorem dX11_comeInto_89 : decode cX11_comeInto 89 = .ok (.getfield 16, 3) := by decide +kernel
theorem dX11_comeInto_92 : decode cX11_comeInto 92 = .ok (.iload_n 1, 1) := by decide +kernel
theorem dX11_comeInto_93 : decode cX11_comeInto 93 = .ok (.iaload, 1) := by decide +kernel
theorem dX11_comeInto_94 : decode cX11_comeInto 94 = .ok (.bipush 8, 2) := by decide +kernel
theorem dX11_comeInto_96 : decode cX11_comeInto 96 = .ok (.if_icmp .ne 11, 3) := by decide +kernel
theorem dX11_comeInto_99 : decode cX11_comeInto 99 = .ok (.aload_n 0, 1) := by decide +kernel
theorem dX11_comeInto_100 : decode cX11_comeInto 100 = .ok (.iload_n 1, 1) := by decide +kernel
theorem dX11_comeInto_101 : decode cX11_comeInto 101 = .ok (.invokevirtual 492, 3) := by decide +kernel
theorem dX11_comeInto_104 : decode cX11_comeInto 104 = .ok (.goto 8, 3) := by decide +kernel
theorem dX11_comeInto_107 : decode cX11_comeInto 107 = .ok (.aload_n 0, 1) := by decide +kernel
theorem dX11_comeInto_108 : decode cX11_comeInto 108 = .ok (.iload_n 1, 1) := by decide +kernel
theorem dX11_comeInto_109 : decode cX11_comeInto 109 = .ok (.invokevirtual 495, 3) := by decide +kernel
theorem dX11_comeInto_112 : decode cX11_comeInto 112 = .ok (.return_, 1) := by decide +kernel
theorem mw_X11_comeInto : MW yX11_comeInto (Cond.code yX11_comeInto cX11_comeInto 3 (Option.none : Option Jvm.ClassFile.FieldType)) cX11_comeInto 3 (Option.none : Option Jvm.ClassFile.FieldType) 1 := ⟨rfl, ⟨(lw_all_tbl q3128), rfl, (lw_all_tbl q173)⟩, rfl, ⟨by decide, by decide⟩, by decide +kernel⟩
abbrev okt_comeInto_60 (x : Int) : Prop := R32 x
abbrev lvt_comeInto_60 (Γ : Gm) (x : Int) : List (Nat × Value) := [(0, vA (mg Γ) 21), (2, vI x)]
noncomputable def t_comeInto_60b {A : Type} (k_85 : Mo TS A) (l2 : Int) : Mo TS ((Int) ⊕ A) :=
  if l2 < 0 then
    lo k_85
  else
    bnd (rd 20 3200 l2) fun v1 =>
    bnd (t_newVariable v1) fun v2 =>
    bnd (rd 16 3200 l2) fun v3 =>
    pr (.inl v3)
theorem st_comeInto_60b {Γ : Gm} {h : CH} {d : Nat} (hT : HT h) (o : Ok Γ "LazyForgeModel" cX11_comeInto 3 (Option.none : Option Jvm.ClassFile.FieldType) (d + 2)) {A : Type} {K : A → TS → Prop} (k_85 : Mo TS A) (hk_85 : Sx Γ (fun t => (h, t)) K 85 [] [] (k_85)) (l2 : Int) (hl2 : R32 l2) : Sx Γ (fun t => (h, t)) (KL Γ (fun t => (h, t)) okt_comeInto_60 K 60 (lvt_comeInto_60 Γ) []) 60 [(0, vA (mg Γ) 21), (2, vI l2)] [] (t_comeInto_60b k_85 l2) := by
  unfold t_comeInto_60b
  refine s_iload_n o dX11_comeInto_60 rfl 1 rfl ?_
  refine s_if_lt (tgt := 85) o dX11_comeInto_61 (by decide) hl2 ?_ ?_
  · refine r_to [] [] rfl ?_
    exact s_lo hk_85
  · refine s_aload_n o dX11_comeInto_64 rfl 0 rfl ?_
    refine s_aload_n o dX11_comeInto_65 rfl 0 rfl ?_
    refine s_tga (x := 31) o hT tf_nodeNames ta_nodeNames (lw_all_tbl q2524) dX11_comeInto_66 ?_
    refine s_iload_n o dX11_comeInto_69 rfl 1 rfl ?_
    refine r_tlald o hT tr_nodeNames hl2 dX11_comeInto_70 (fun v1 hv1 => ?_)
    refine s_cv (d := d + 1) (C := "LazyForgeModel") (As := [vJ v1]) (st := []) o (st_newVariable (mg Γ) (d + 1) h hT v1 hv1) mw_X11_newVariable rfl (Or.inl (lw_all_tbl q3129)) (lw_all_tbl qs101) (lw_all_tbl q3131) (fun t => rc_t o hT t) wt_0 rfl dX11_comeInto_71 rfl (rs := fun r => [vI r]) (fun _ => rfl) (fun v2 hv2 => ?_)
    refine s_pop o dX11_comeInto_74 rfl ?_
    refine s_aload_n o dX11_comeInto_75 rfl 0 rfl ?_
    refine s_tga (x := 27) o hT tf_nexts ta_nexts (lw_all_tbl q2520) dX11_comeInto_76 ?_
    refine s_iload_n o dX11_comeInto_79 rfl 1 rfl ?_
    refine r_tiald o hT tr_nexts hl2 dX11_comeInto_80 (fun v3 hv3 => ?_)
    refine r_istore_nP o dX11_comeInto_81 rfl rfl [(0, vA (mg Γ) 21)] [0] rfl ⟨(Nat.ne_of_beq_eq_false rfl), (fun _ => (vA_cat (mg Γ) 21)), trivial⟩ ?_
    refine s_goto (tgt := 60) o dX11_comeInto_82 (by decide) ?_
    refine r_to [(0, vA (mg Γ) 21), (2, vI v3)] [1, 0] rfl ?_
    exact s_back hv3 rfl
noncomputable def t_comeInto_60 {A : Type} (k_85 : Mo TS A) (l2 : Int) : Mo TS A := Loop (fun x => t_comeInto_60b k_85 x) l2
theorem st_comeInto_60 {Γ : Gm} {h : CH} {d : Nat} (hT : HT h) (o : Ok Γ "LazyForgeModel" cX11_comeInto 3 (Option.none : Option Jvm.ClassFile.FieldType) (d + 2)) {A : Type} {K : A → TS → Prop} (k_85 : Mo TS A) (hk_85 : Sx Γ (fun t => (h, t)) K 85 [] [] (k_85)) (l2 : Int) (hl2 : R32 l2) : Sx Γ (fun t => (h, t)) K 60 [(0, vA (mg Γ) 21), (2, vI l2)] [] (t_comeInto_60 k_85 l2) :=
  s_loop okt_comeInto_60 (lvt_comeInto_60 Γ) (fun x hx => st_comeInto_60b hT o k_85 hk_85 x hx) (x := l2) hl2
noncomputable def t_comeInto_34  (l1 : Int) : Mo TS Int :=
  bnd (rd 13 3200 l1) fun v1 =>
  if ¬ v1 = 0 then
    bnd (rd 13 3200 l1) fun v2 =>
    if ¬ v2 = 8 then
      bnd (t_giveNames l1) fun _ =>
      pr 0
    else
      bnd (t_use l1) fun _ =>
      pr 0
  else
    bnd (gs 50) fun v3 =>
    bnd (wr 54 3200 l1 v3) fun _ =>
    bnd (rd 14 3200 l1) fun v4 =>
    t_comeInto_60
      (pr 0) v4
theorem st_comeInto_34 {Γ : Gm} {h : CH} {d : Nat} (hT : HT h) (o : Ok Γ "LazyForgeModel" cX11_comeInto 3 (Option.none : Option Jvm.ClassFile.FieldType) (d + 2))   (l1 : Int) (hl1 : R32 l1) : Sx Γ (fun t => (h, t)) (fun a s => mt Γ = (0, a, ((h, s) : Wd))) 34 [(0, vA (mg Γ) 21), (1, vI l1)] [] (t_comeInto_34 l1) := by
  unfold t_comeInto_34
  refine s_aload_n o dX11_comeInto_34 rfl 0 rfl ?_
  refine s_tga (x := 24) o hT tf_kinds ta_kinds (lw_all_tbl q2517) dX11_comeInto_35 ?_
  refine s_iload_n o dX11_comeInto_38 rfl 1 rfl ?_
  refine r_tiald o hT tr_kinds hl1 dX11_comeInto_39 (fun v1 hv1 => ?_)
  refine s_if_ne (tgt := 88) o dX11_comeInto_40 (by decide) hv1 ?_ ?_
  · refine s_aload_n o dX11_comeInto_88 rfl 0 rfl ?_
    refine s_tga (x := 24) o hT tf_kinds ta_kinds (lw_all_tbl q2517) dX11_comeInto_89 ?_
    refine s_iload_n o dX11_comeInto_92 rfl 1 rfl ?_
    refine r_tiald o hT tr_kinds hl1 dX11_comeInto_93 (fun v2 hv2 => ?_)
    refine s_bipush o dX11_comeInto_94 rfl ?_
    refine s_icmp_ne (tgt := 107) o dX11_comeInto_96 (by decide) hv2 (r32 rfl) ?_ ?_
    · refine s_aload_n o dX11_comeInto_107 rfl 0 rfl ?_
      refine s_iload_n o dX11_comeInto_108 rfl 1 rfl ?_
      refine s_cv (d := d + 1) (C := "LazyForgeModel") (As := [vI l1]) (st := []) o (st_giveNames (mg Γ) d h hT l1 hl1) mw_X11_giveNames rfl (Or.inl (lw_all_tbl q3141)) (lw_all_tbl qs104) (lw_all_tbl q3143) (fun t => rc_t o hT t) wt_0 rfl dX11_comeInto_109 rfl (rs := fun _ => []) (fun _ => rfl) (fun _ _ => ?_)
      exact s_vret o rfl dX11_comeInto_112 (fun _ hh => hh)
    · refine s_aload_n o dX11_comeInto_99 rfl 0 rfl ?_
      refine s_iload_n o dX11_comeInto_100 rfl 1 rfl ?_
      refine s_cv (d := d + 1) (C := "LazyForgeModel") (As := [vI l1]) (st := []) o (st_use (mg Γ) d h hT l1 hl1) mw_X11_use rfl (Or.inl (lw_all_tbl q3133)) (lw_all_tbl qs102) (lw_all_tbl q3135) (fun t => rc_t o hT t) wt_0 rfl dX11_comeInto_101 rfl (rs := fun _ => []) (fun _ => rfl) (fun _ _ => ?_)
      refine s_goto (tgt := 112) o dX11_comeInto_104 (by decide) ?_
      exact s_vret o rfl dX11_comeInto_112 (fun _ hh => hh)
  · refine s_aload_n o dX11_comeInto_43 rfl 0 rfl ?_
    refine s_tga (x := 51) o hT tf_firstVariables ta_firstVariables (lw_all_tbl q2558) dX11_comeInto_44 ?_
    refine s_iload_n o dX11_comeInto_47 rfl 1 rfl ?_
    refine s_aload_n o dX11_comeInto_48 rfl 0 rfl ?_
    refine r_tgf vI rfl o hT tf_variables tj_variables (lw_all_tbl q2554) dX11_comeInto_49 (fun v3 hv3 => ?_)
    refine r_tiast o hT tr_firstVariables hl1 hv3 dX11_comeInto_52 ?_
    refine s_aload_n o dX11_comeInto_53 rfl 0 rfl ?_
    refine s_tga (x := 25) o hT tf_firsts ta_firsts (lw_all_tbl q2518) dX11_comeInto_54 ?_
    refine s_iload_n o dX11_comeInto_57 rfl 1 rfl ?_
    refine r_tiald o hT tr_firsts hl1 dX11_comeInto_58 (fun v4 hv4 => ?_)
    refine r_istore_n o dX11_comeInto_59 rfl rfl ⟨(Nat.ne_of_beq_eq_false rfl), (fun _ => (vA_cat (mg Γ) 21)), ⟨(Nat.ne_of_beq_eq_false rfl), (fun _ => rfl), trivial⟩⟩ ?_
    refine r_to [(0, vA (mg Γ) 21), (2, vI v4)] [1, 0] rfl ?_
    refine st_comeInto_60 hT o _ ?_ v4 hv4
    · refine s_goto (tgt := 112) o dX11_comeInto_85 (by decide) ?_
      exact s_vret o rfl dX11_comeInto_112 (fun _ hh => hh)
noncomputable def t_comeInto (l1 : Int) : Mo TS Int :=
  bnd (rd 47 3200 l1) fun v1 =>
  if v1 < 0 then
    t_comeInto_34 l1
  else
    bnd (gs 58) fun v2 =>
    bnd (rd 47 3200 l1) fun v3 =>
    bnd (wr 59 64 v2 v3) fun _ =>
    bnd (gs 58) fun v4 =>
    bnd (ss 58 (w32 (v4 + 1))) fun _ =>
    t_comeInto_34 l1
theorem st_comeInto (g : gC) (d : Nat) (h : CH) (hT : HT h) (l1 : Int) (hl1 : R32 l1) : SF g yX11_comeInto (Cond.code yX11_comeInto cX11_comeInto 3 (Option.none : Option Jvm.ClassFile.FieldType)) (Option.none : Option Jvm.ClassFile.FieldType) (d + 2) [vA g 21, vI l1] (fun t => (h, t)) (t_comeInto l1) := by
  refine SF.of (lv := [(0, vA g 21), (1, vI l1)]) (by decide) (wt_A (wt_I wt_0)) rfl (by simp only [la_A, la_I, la_J, la_0]) (fun Γ hg hnm o => ?_)
  subst hg
  have o : Ok Γ "LazyForgeModel" cX11_comeInto 3 (Option.none : Option Jvm.ClassFile.FieldType) (d + 2) := o
  unfold t_comeInto
  refine s_aload_n o dX11_comeInto_0 rfl 0 rfl ?_
  refine s_tga (x := 45) o hT tf_functionOf ta_functionOf (lw_all_tbl q2551) dX11_comeInto_1 ?_
  refine s_iload_n o dX11_comeInto_4 rfl 1 rfl ?_
  refine r_tiald o hT tr_functionOf hl1 dX11_comeInto_5 (fun v1 hv1 => ?_)
  refine s_if_lt (tgt := 34) o dX11_comeInto_6 (by decide) hv1 ?_ ?_
  · exact st_comeInto_34 hT o l1 hl1
  · refine s_aload_n o dX11_comeInto_9 rfl 0 rfl ?_
    refine s_tga (x := 54) o hT tf_arounds ta_arounds (lw_all_tbl q2563) dX11_comeInto_10 ?_
    refine s_aload_n o dX11_comeInto_13 rfl 0 rfl ?_
    refine r_tgf vI rfl o hT tf_around tj_around (lw_all_tbl q2562) dX11_comeInto_14 (fun v2 hv2 => ?_)
    refine s_aload_n o dX11_comeInto_17 rfl 0 rfl ?_
    refine s_tga (x := 45) o hT tf_functionOf ta_functionOf (lw_all_tbl q2551) dX11_comeInto_18 ?_
    refine s_iload_n o dX11_comeInto_21 rfl 1 rfl ?_
    refine r_tiald o hT tr_functionOf hl1 dX11_comeInto_22 (fun v3 hv3 => ?_)
    refine r_tiast o hT tr_arounds hv2 hv3 dX11_comeInto_23 ?_
    refine s_aload_n o dX11_comeInto_24 rfl 0 rfl ?_
    refine s_dup o dX11_comeInto_25 (vA_cat (mg Γ) 21) ?_
    refine r_tgf vI rfl o hT tf_around tj_around (lw_all_tbl q2562) dX11_comeInto_26 (fun v4 hv4 => ?_)
    refine s_iconst o dX11_comeInto_29 ?_
    refine s_iadd o dX11_comeInto_30 ?_
    refine r_tpf vI rfl o hT tf_around tj_around (lw_all_tbl q2562) dX11_comeInto_31 (w32_R _) ty_int ?_
    exact st_comeInto_34 hT o l1 hl1
theorem dX11_judge_0 : decode cX11_judge 0 = .ok (.aload_n 0, 1) := by decide +kernel
theorem dX11_judge_1 : decode cX11_judge 1 = .ok (.getfield 462, 3) := by decide +kernel
theorem dX11_judge_4 : decode cX11_judge 4 = .ok (.istore_n 1, 1) := by decide +kernel
theorem dX11_judge_5 : decode cX11_judge 5 = .ok (.iload_n 1, 1) := by decide +kernel
theorem dX11_judge_6 : decode cX11_judge 6 = .ok (.aload_n 0, 1) := by decide +kernel
theorem dX11_judge_7 : decode cX11_judge 7 = .ok (.getfield 486, 3) := by decide +kernel
theorem dX11_judge_10 : decode cX11_judge 10 = .ok (.if_icmp .ge 44, 3) := by decide +kernel
theorem dX11_judge_13 : decode cX11_judge 13 = .ok (.aload_n 0, 1) := by decide +kernel
theorem dX11_judge_14 : decode cX11_judge 14 = .ok (.getfield 83, 3) := by decide +kernel
theorem dX11_judge_17 : decode cX11_judge 17 = .ok (.iload_n 1, 1) := by decide +kernel
theorem dX11_judge_18 : decode cX11_judge 18 = .ok (.iaload, 1) := by decide +kernel
theorem dX11_judge_19 : decode cX11_judge 19 = .ok (.aload_n 0, 1) := by decide +kernel
theorem dX11_judge_20 : decode cX11_judge 20 = .ok (.getfield 44, 3) := by decide +kernel
theorem dX11_judge_23 : decode cX11_judge 23 = .ok (.aload_n 0, 1) := by decide +kernel
theorem dX11_judge_24 : decode cX11_judge 24 = .ok (.getfield 56, 3) := by decide +kernel
theorem dX11_judge_27 : decode cX11_judge 27 = .ok (.iload_n 1, 1) := by decide +kernel
theorem dX11_judge_28 : decode cX11_judge 28 = .ok (.iaload, 1) := by decide +kernel
theorem dX11_judge_29 : decode cX11_judge 29 = .ok (.iaload, 1) := by decide +kernel
theorem dX11_judge_30 : decode cX11_judge 30 = .ok (.iadd, 1) := by decide +kernel
theorem dX11_judge_31 : decode cX11_judge 31 = .ok (.bipush 8, 2) := by decide +kernel
theorem dX11_judge_33 : decode cX11_judge 33 = .ok (.if_icmp .le 15, 3) := by decide +kernel
theorem dX11_judge_36 : decode cX11_judge 36 = .ok (.aload_n 0, 1) := by decide +kernel
theorem dX11_judge_37 : decode cX11_judge 37 = .ok (.bipush 6, 2) := by decide +kernel
theorem dX11_judge_39 : decode cX11_judge 39 = .ok (.aload_n 0, 1) := by decide +kernel
theorem dX11_judge_40 : decode cX11_judge 40 = .ok (.getfield 53, 3) := by decide +kernel
theorem dX11_judge_43 : decode cX11_judge 43 = .ok (.iload_n 1, 1) := by decide +kernel
theorem dX11_judge_44 : decode cX11_judge 44 = .ok (.iaload, 1) := by decide +kernel
theorem dX11_judge_45 : decode cX11_judge 45 = .ok (.invokevirtual 317, 3) := by decide +kernel
theorem dX11_judge_48 : decode cX11_judge 48 = .ok (.iinc 1 1, 3) := by decide +kernel
theorem dX11_judge_51 : decode cX11_judge 51 = .ok (.goto (-46), 3) := by decide +kernel
theorem dX11_judge_54 : decode cX11_judge 54 = .ok (.aload_n 0, 1) := by decide +kernel
theorem dX11_judge_55 : decode cX11_judge 55 = .ok (.invokevirtual 517, 3) := by decide +kernel
theorem dX11_judge_58 : decode cX11_judge 58 = .ok (.istore_n 1, 1) := by decide +kernel
theorem dX11_judge_59 : decode cX11_judge 59 = .ok (.iload_n 1, 1) := by decide +kernel
theorem dX11_judge_60 : decode cX11_judge 60 = .ok (.ifCond .lt 17, 3) := by decide +kernel
theorem dX11_judge_63 : decode cX11_judge 63 = .ok (.aload_n 0, 1) := by decide +kernel
theorem dX11_judge_64 : decode cX11_judge 64 = .ok (.getfield 44, 3) := by decide +kernel
theorem dX11_judge_67 : decode cX11_judge 67 = .ok (.aload_n 0, 1) := by decide +kernel
theorem dX11_judge_68 : decode cX11_judge 68 = .ok (.getfield 56, 3) := by decide +kernel
theorem dX11_judge_71 : decode cX11_judge 71 = .ok (.iload_n 1, 1) := by decide +kernel
theorem dX11_judge_72 : decode cX11_judge 72 = .ok (.iaload, 1) := by decide +kernel
theorem dX11_judge_73 : decode cX11_judge 73 = .ok (.iaload, 1) := by decide +kernel
theorem dX11_judge_74 : decode cX11_judge 74 = .ok (.ifCond .le 10, 3) := by decide +kernel
theorem dX11_judge_77 : decode cX11_judge 77 = .ok (.aload_n 0, 1) := by decide +kernel
theorem dX11_judge_78 : decode cX11_judge 78 = .ok (.bipush 7, 2) := by decide +kernel
theorem dX11_judge_80 : decode cX11_judge 80 = .ok (.iconst 0, 1) := by decide +kernel
theorem dX11_judge_81 : decode cX11_judge 81 = .ok (.invokevirtual 317, 3) := by decide +kernel
theorem dX11_judge_84 : decode cX11_judge 84 = .ok (.return_, 1) := by decide +kernel
theorem mw_X11_judge : MW yX11_judge (Cond.code yX11_judge cX11_judge 2 (Option.none : Option Jvm.ClassFile.FieldType)) cX11_judge 2 (Option.none : Option Jvm.ClassFile.FieldType) 0 := ⟨rfl, ⟨(lw_all_tbl q3160), rfl, (lw_all_tbl q173)⟩, rfl, ⟨by decide, by decide⟩, by decide +kernel⟩
abbrev okt_judge_5 (x : Int) : Prop := R32 x
abbrev lvt_judge_5 (Γ : Gm) (x : Int) : List (Nat × Value) := [(0, vA (mg Γ) 21), (1, vI x)]
noncomputable def t_judge_48 {A : Type} (k_54 : Mo TS A) (l1 : Int) : Mo TS ((Int) ⊕ A) :=
  pr (.inl (w32 (l1 + 1)))
theorem st_judge_48 {Γ : Gm} {h : CH} {d : Nat} (hT : HT h) (o : Ok Γ "LazyForgeModel" cX11_judge 2 (Option.none : Option Jvm.ClassFile.FieldType) (d + 2)) {A : Type} {K : A → TS → Prop}  (k_54 : Mo TS A) (hk_54 : Sx Γ (fun t => (h, t)) K 54 [(0, vA (mg Γ) 21)] [] (k_54)) (l1 : Int) (hl1 : R32 l1) : Sx Γ (fun t => (h, t)) (KL Γ (fun t => (h, t)) okt_judge_5 K 5 (lvt_judge_5 Γ) []) 48 [(0, vA (mg Γ) 21), (1, vI l1)] [] (t_judge_48 k_54 l1) := by
  unfold t_judge_48
  refine r_iinc (j := 1) o dX11_judge_48 rfl rfl [(0, vA (mg Γ) 21)] [0] rfl ⟨(Nat.ne_of_beq_eq_false rfl), (fun _ => (vA_cat (mg Γ) 21)), trivial⟩ ?_
  refine s_goto (tgt := 5) o dX11_judge_51 (by decide) ?_
  refine r_to [(0, vA (mg Γ) 21), (1, vI (w32 (l1 + 1)))] [1, 0] rfl ?_
  exact s_back (w32_R _) rfl
noncomputable def t_judge_5b {A : Type} (k_54 : Mo TS A) (l1 : Int) : Mo TS ((Int) ⊕ A) :=
  bnd (gs 46) fun v1 =>
  if v1 ≤ l1 then
    lo k_54
  else
    bnd (rd 48 640 l1) fun v2 =>
    bnd (rd 30 640 l1) fun v3 =>
    bnd (rd 22 3200 v3) fun v4 =>
    if (w32 (v2 + v4)) ≤ 8 then
      t_judge_48 k_54 l1
    else
      bnd (rd 29 640 l1) fun v5 =>
      bnd (t_fail 6 v5) fun _ =>
      t_judge_48 k_54 l1
theorem st_judge_5b {Γ : Gm} {h : CH} {d : Nat} (hT : HT h) (o : Ok Γ "LazyForgeModel" cX11_judge 2 (Option.none : Option Jvm.ClassFile.FieldType) (d + 2)) {A : Type} {K : A → TS → Prop} (k_54 : Mo TS A) (hk_54 : Sx Γ (fun t => (h, t)) K 54 [(0, vA (mg Γ) 21)] [] (k_54)) (l1 : Int) (hl1 : R32 l1) : Sx Γ (fun t => (h, t)) (KL Γ (fun t => (h, t)) okt_judge_5 K 5 (lvt_judge_5 Γ) []) 5 [(0, vA (mg Γ) 21), (1, vI l1)] [] (t_judge_5b k_54 l1) := by
  unfold t_judge_5b
  refine s_iload_n o dX11_judge_5 rfl 1 rfl ?_
  refine s_aload_n o dX11_judge_6 rfl 0 rfl ?_
  refine r_tgf vI rfl o hT tf_named tj_named (lw_all_tbl q2550) dX11_judge_7 (fun v1 hv1 => ?_)
  refine s_icmp_ge (tgt := 54) o dX11_judge_10 (by decide) hl1 hv1 ?_ ?_
  · refine r_to [(0, vA (mg Γ) 21)] [0] rfl ?_
    exact s_lo hk_54
  · refine s_aload_n o dX11_judge_13 rfl 0 rfl ?_
    refine s_tga (x := 46) o hT tf_freeCounts ta_freeCounts (lw_all_tbl q2552) dX11_judge_14 ?_
    refine s_iload_n o dX11_judge_17 rfl 1 rfl ?_
    refine r_tiald o hT tr_freeCounts hl1 dX11_judge_18 (fun v2 hv2 => ?_)
    refine s_aload_n o dX11_judge_19 rfl 0 rfl ?_
    refine s_tga (x := 33) o hT tf_giveCounts ta_giveCounts (lw_all_tbl q2526) dX11_judge_20 ?_
    refine s_aload_n o dX11_judge_23 rfl 0 rfl ?_
    refine s_tga (x := 37) o hT tf_functionNodes ta_functionNodes (lw_all_tbl q2534) dX11_judge_24 ?_
    refine s_iload_n o dX11_judge_27 rfl 1 rfl ?_
    refine r_tiald o hT tr_functionNodes hl1 dX11_judge_28 (fun v3 hv3 => ?_)
    refine r_tiald o hT tr_giveCounts hv3 dX11_judge_29 (fun v4 hv4 => ?_)
    refine s_iadd o dX11_judge_30 ?_
    refine s_bipush o dX11_judge_31 rfl ?_
    refine s_icmp_le (tgt := 48) o dX11_judge_33 (by decide) (w32_R _) (r32 rfl) ?_ ?_
    · exact st_judge_48 hT o k_54 hk_54 l1 hl1
    · refine s_aload_n o dX11_judge_36 rfl 0 rfl ?_
      refine s_bipush o dX11_judge_37 rfl ?_
      refine s_aload_n o dX11_judge_39 rfl 0 rfl ?_
      refine s_tga (x := 36) o hT tf_functionPlaces ta_functionPlaces (lw_all_tbl q2533) dX11_judge_40 ?_
      refine s_iload_n o dX11_judge_43 rfl 1 rfl ?_
      refine r_tiald o hT tr_functionPlaces hl1 dX11_judge_44 (fun v5 hv5 => ?_)
      refine s_cv (d := d + 1) (C := "LazyForgeModel") (As := [vI 6, vI v5]) (st := []) o (st_fail (mg Γ) (d + 1) h hT 6 v5 (r32 rfl) hv5) mw_X11_fail rfl (Or.inl (lw_all_tbl q2975)) (lw_all_tbl qs64) (lw_all_tbl q2977) (fun t => rc_t o hT t) wt_0 rfl dX11_judge_45 rfl (rs := fun _ => []) (fun _ => rfl) (fun _ _ => ?_)
      exact st_judge_48 hT o k_54 hk_54 l1 hl1
noncomputable def t_judge_5 {A : Type} (k_54 : Mo TS A) (l1 : Int) : Mo TS A := Loop (fun x => t_judge_5b k_54 x) l1
theorem st_judge_5 {Γ : Gm} {h : CH} {d : Nat} (hT : HT h) (o : Ok Γ "LazyForgeModel" cX11_judge 2 (Option.none : Option Jvm.ClassFile.FieldType) (d + 2)) {A : Type} {K : A → TS → Prop} (k_54 : Mo TS A) (hk_54 : Sx Γ (fun t => (h, t)) K 54 [(0, vA (mg Γ) 21)] [] (k_54)) (l1 : Int) (hl1 : R32 l1) : Sx Γ (fun t => (h, t)) K 5 [(0, vA (mg Γ) 21), (1, vI l1)] [] (t_judge_5 k_54 l1) :=
  s_loop okt_judge_5 (lvt_judge_5 Γ) (fun x hx => st_judge_5b hT o k_54 hk_54 x hx) (x := l1) hl1
noncomputable def t_judge_77  : Mo TS Int :=
  bnd (t_fail 7 0) fun _ =>
  pr 0
theorem st_judge_77 {Γ : Gm} {h : CH} {d : Nat} (hT : HT h) (o : Ok Γ "LazyForgeModel" cX11_judge 2 (Option.none : Option Jvm.ClassFile.FieldType) (d + 2))   : Sx Γ (fun t => (h, t)) (fun a s => mt Γ = (0, a, ((h, s) : Wd))) 77 [(0, vA (mg Γ) 21)] [] (t_judge_77) := by
  unfold t_judge_77
  refine s_aload_n o dX11_judge_77 rfl 0 rfl ?_
  refine s_bipush o dX11_judge_78 rfl ?_
  refine s_iconst o dX11_judge_80 ?_
  refine s_cv (d := d + 1) (C := "LazyForgeModel") (As := [vI 7, vI 0]) (st := []) o (st_fail (mg Γ) (d + 1) h hT 7 0 (r32 rfl) (r32 rfl)) mw_X11_fail rfl (Or.inl (lw_all_tbl q2975)) (lw_all_tbl qs64) (lw_all_tbl q2977) (fun t => rc_t o hT t) wt_0 rfl dX11_judge_81 rfl (rs := fun _ => []) (fun _ => rfl) (fun _ _ => ?_)
  exact s_vret o rfl dX11_judge_84 (fun _ hh => hh)
noncomputable def t_judge : Mo TS Int :=
  bnd (gs 27) fun v1 =>
  t_judge_5
    (bnd (t_mainFunction) fun v2 =>
  if v2 < 0 then
    t_judge_77
  else
    bnd (rd 30 640 v2) fun v3 =>
    bnd (rd 22 3200 v3) fun v4 =>
    if v4 ≤ 0 then
      pr 0
    else
      t_judge_77) v1
theorem st_judge (g : gC) (d : Nat) (h : CH) (hT : HT h) : SF g yX11_judge (Cond.code yX11_judge cX11_judge 2 (Option.none : Option Jvm.ClassFile.FieldType)) (Option.none : Option Jvm.ClassFile.FieldType) (d + 2) [vA g 21] (fun t => (h, t)) (t_judge) := by
  refine SF.of (lv := [(0, vA g 21)]) (by decide) (wt_A wt_0) rfl (by simp only [la_A, la_I, la_J, la_0]) (fun Γ hg hnm o => ?_)
  subst hg
  have o : Ok Γ "LazyForgeModel" cX11_judge 2 (Option.none : Option Jvm.ClassFile.FieldType) (d + 2) := o
  unfold t_judge
  refine s_aload_n o dX11_judge_0 rfl 0 rfl ?_
  refine r_tgf vI rfl o hT tf_functions tj_functions (lw_all_tbl q2531) dX11_judge_1 (fun v1 hv1 => ?_)
  refine r_istore_n o dX11_judge_4 rfl rfl ⟨(Nat.ne_of_beq_eq_false rfl), (fun _ => (vA_cat (mg Γ) 21)), trivial⟩ ?_
  refine r_to [(0, vA (mg Γ) 21), (1, vI v1)] [1, 0] rfl ?_
  refine st_judge_5 hT o _ ?_ v1 hv1
  · refine s_aload_n o dX11_judge_54 rfl 0 rfl ?_
    refine s_cv (d := d + 1) (C := "LazyForgeModel") (As := []) (st := []) o (st_mainFunction (mg Γ) d h hT) mw_X11_mainFunction rfl (Or.inl (lw_all_tbl q3161)) (lw_all_tbl qs109) (lw_all_tbl q3163) (fun t => rc_t o hT t) wt_0 rfl dX11_judge_55 rfl (rs := fun r => [vI r]) (fun _ => rfl) (fun v2 hv2 => ?_)
    refine r_istore_n o dX11_judge_58 rfl rfl ⟨(Nat.ne_of_beq_eq_false rfl), (fun _ => (vA_cat (mg Γ) 21)), trivial⟩ ?_
    refine s_iload_n o dX11_judge_59 rfl 0 rfl ?_
    refine s_if_lt (tgt := 77) o dX11_judge_60 (by decide) (hv2 _ rfl) ?_ ?_
    · refine r_to [(0, vA (mg Γ) 21)] [1] rfl ?_
      exact st_judge_77 hT o
    · refine s_aload_n o dX11_judge_63 rfl 1 rfl ?_
      refine s_tga (x := 33) o hT tf_giveCounts ta_giveCounts (lw_all_tbl q2526) dX11_judge_64 ?_
      refine s_aload_n o dX11_judge_67 rfl 1 rfl ?_
      refine s_tga (x := 37) o hT tf_functionNodes ta_functionNodes (lw_all_tbl q2534) dX11_judge_68 ?_
      refine s_iload_n o dX11_judge_71 rfl 0 rfl ?_
      refine r_tiald o hT tr_functionNodes (hv2 _ rfl) dX11_judge_72 (fun v3 hv3 => ?_)
      refine r_tiald o hT tr_giveCounts hv3 dX11_judge_73 (fun v4 hv4 => ?_)
      refine s_if_le (tgt := 84) o dX11_judge_74 (by decide) hv4 ?_ ?_
      · exact s_vret o rfl dX11_judge_84 (fun _ hh => hh)
      · refine r_to [(0, vA (mg Γ) 21)] [1] rfl ?_
        exact st_judge_77 hT o
theorem dX11_liftAll_0 : decode cX11_liftAll 0 = .ok (.aload_n 0, 1) := by decide +kernel
theorem dX11_liftAll_1 : decode cX11_liftAll 1 = .ok (.iconst 0, 1) := by decide +kernel
theorem dX11_liftAll_2 : decode cX11_liftAll 2 = .ok (.putfield 520, 3) := by decide +kernel
theorem dX11_liftAll_5 : decode cX11_liftAll 5 = .ok (.aload_n 0, 1) := by decide +kernel
theorem dX11_liftAll_6 : decode cX11_liftAll 6 = .ok (.iconst 0, 1) := by decide +kernel
theorem dX11_liftAll_7 : decode cX11_liftAll 7 = .ok (.putfield 523, 3) := by decide +kernel
theorem dX11_liftAll_10 : decode cX11_liftAll 10 = .ok (.aload_n 0, 1) := by decide +kernel
theorem dX11_liftAll_11 : decode cX11_liftAll 11 = .ok (.iconst 0, 1) := by decide +kernel
theorem dX11_liftAll_12 : decode cX11_liftAll 12 = .ok (.putfield 526, 3) := by decide +kernel
theorem dX11_liftAll_15 : decode cX11_liftAll 15 = .ok (.iconst 0, 1) := by decide +kernel
theorem dX11_liftAll_16 : decode cX11_liftAll 16 = .ok (.istore_n 1, 1) := by decide +kernel
theorem dX11_liftAll_17 : decode cX11_liftAll 17 = .ok (.iload_n 1, 1) := by decide +kernel
theorem dX11_liftAll_18 : decode cX11_liftAll 18 = .ok (.aload_n 0, 1) := by decide +kernel
theorem dX11_liftAll_19 : decode cX11_liftAll 19 = .ok (.getfield 486, 3) := by decide +kernel
theorem dX11_liftAll_22 : decode cX11_liftAll 22 = .ok (.if_icmp .ge 245, 3) := by decide +kernel
theorem dX11_liftAll_25 : decode cX11_liftAll 25 = .ok (.aload_n 0, 1) := by decide +kernel
theorem dX11_liftAll_26 : decode cX11_liftAll 26 = .ok (.getfield 56, 3) := by decide +kernel
theorem dX11_liftAll_29 : decode cX11_liftAll 29 = .ok (.iload_n 1, 1) := by decide +kernel
theorem dX11_liftAll_30 : decode cX11_liftAll 30 = .ok (.iaload, 1) := by decide +kernel
theorem dX11_liftAll_31 : decode cX11_liftAll 31 = .ok (.istore_n 2, 1) := by decide +kernel
theorem dX11_liftAll_32 : decode cX11_liftAll 32 = .ok (.aload_n 0, 1) := by decide +kernel
theorem dX11_liftAll_33 : decode cX11_liftAll 33 = .ok (.getfield 162, 3) := by decide +kernel
theorem dX11_liftAll_36 : decode cX11_liftAll 36 = .ok (.iload_n 1, 1) := by decide +kernel
theorem dX11_liftAll_37 : decode cX11_liftAll 37 = .ok (.aload_n 0, 1) := by decide +kernel
theorem dX11_liftAll_38 : decode cX11_liftAll 38 = .ok (.getfield 520, 3) := by decide +kernel
theorem dX11_liftAll_41 : decode cX11_liftAll 41 = .ok (.iastore, 1) := by decide +kernel
theorem dX11_liftAll_42 : decode cX11_liftAll 42 = .ok (.aload_n 0, 1) := by decide +kernel
theorem dX11_liftAll_43 : decode cX11_liftAll 43 = .ok (.getfield 171, 3) := by decide +kernel
theorem dX11_liftAll_46 : decode cX11_liftAll 46 = .ok (.iload_n 1, 1) := by decide +kernel
theorem dX11_liftAll_47 : decode cX11_liftAll 47 = .ok (.aload_n 0, 1) := by decide +kernel
theorem dX11_liftAll_48 : decode cX11_liftAll 48 = .ok (.getfield 83, 3) := by decide +kernel
theorem dX11_liftAll_51 : decode cX11_liftAll 51 = .ok (.iload_n 1, 1) := by decide +kernel
theorem dX11_liftAll_52 : decode cX11_liftAll 52 = .ok (.iaload, 1) := by decide +kernel
theorem dX11_liftAll_53 : decode cX11_liftAll 53 = .ok (.aload_n 0, 1) := by decide +kernel
theorem dX11_liftAll_54 : decode cX11_liftAll 54 = .ok (.getfield 44, 3) := by decide +kernel
theorem dX11_liftAll_57 : decode cX11_liftAll 57 = .ok (.iload_n 2, 1) := by decide +kernel
theorem dX11_liftAll_58 : decode cX11_liftAll 58 = .ok (.iaload, 1) := by decide +kernel
theorem dX11_liftAll_59 : decode cX11_liftAll 59 = .ok (.iadd, 1) := by decide +kernel
theorem dX11_liftAll_60 : decode cX11_liftAll 60 = .ok (.iastore, 1) := by decide +kernel
theorem dX11_liftAll_61 : decode cX11_liftAll 61 = .ok (.aload_n 0, 1) := by decide +kernel
theorem dX11_liftAll_62 : decode cX11_liftAll 62 = .ok (.getfield 168, 3) := by decide +kernel
theorem dX11_liftAll_65 : decode cX11_liftAll 65 = .ok (.iload_n 1, 1) := by decide +kernel
theorem dX11_liftAll_66 : decode cX11_liftAll 66 = .ok (.aload_n 0, 1) := by decide +kernel
theorem dX11_liftAll_67 : decode cX11_liftAll 67 = .ok (.getfield 83, 3) := by decide +kernel
theorem dX11_liftAll_70 : decode cX11_liftAll 70 = .ok (.iload_n 1, 1) := by decide +kernel
theorem dX11_liftAll_71 : decode cX11_liftAll 71 = .ok (.iaload, 1) := by decide +kernel
theorem dX11_liftAll_72 : decode cX11_liftAll 72 = .ok (.aload_n 0, 1) := by decide +kernel
theorem dX11_liftAll_73 : decode cX11_liftAll 73 = .ok (.getfield 95, 3) := by decide +kernel
theorem dX11_liftAll_76 : decode cX11_liftAll 76 = .ok (.iload_n 1, 1) := by decide +kernel
theorem dX11_liftAll_77 : decode cX11_liftAll 77 = .ok (.iaload, 1) := by decide +kernel
theorem dX11_liftAll_78 : decode cX11_liftAll 78 = .ok (.iadd, 1) := by decide +kernel
theorem dX11_liftAll_79 : decode cX11_liftAll 79 = .ok (.iastore, 1) := by decide +kernel
theorem dX11_liftAll_80 : decode cX11_liftAll 80 = .ok (.iconst 1, 1) := by decide +kernel
theorem dX11_liftAll_81 : decode cX11_liftAll 81 = .ok (.istore_n 3, 1) := by decide +kernel
theorem dX11_liftAll_82 : decode cX11_liftAll 82 = .ok (.aload_n 0, 1) := by decide +kernel
theorem dX11_liftAll_83 : decode cX11_liftAll 83 = .ok (.iconst 0, 1) := by decide +kernel
theorem dX11_liftAll_84 : decode cX11_liftAll 84 = .ok (.iload_n 2, 1) := by decide +kernel
theorem dX11_liftAll_85 : decode cX11_liftAll 85 = .ok (.invokevirtual 505, 3) := by decide +kernel
theorem dX11_liftAll_88 : decode cX11_liftAll 88 = .ok (.iload_n 3, 1) := by decide +kernel
theorem dX11_liftAll_89 : decode cX11_liftAll 89 = .ok (.ifCond .le 76, 3) := by decide +kernel
theorem dX11_liftAll_92 : decode cX11_liftAll 92 = .ok (.aload_n 0, 1) := by decide +kernel
theorem dX11_liftAll_93 : decode cX11_liftAll 93 = .ok (.iload_n 3, 1) := by decide +kernel
theorem dX11_liftAll_94 : decode cX11_liftAll 94 = .ok (.iconst 1, 1) := by decide +kernel
theorem dX11_liftAll_95 : decode cX11_liftAll 95 = .ok (.isub, 1) := by decide +kernel
theorem dX11_liftAll_96 : decode cX11_liftAll 96 = .ok (.invokevirtual 511, 3) := by decide +kernel
theorem dX11_liftAll_99 : decode cX11_liftAll 99 = .ok (.istore 4, 2) := by decide +kernel
theorem dX11_liftAll_101 : decode cX11_liftAll 101 = .ok (.iload 4, 2) := by decide +kernel
theorem dX11_liftAll_103 : decode cX11_liftAll 103 = .ok (.ifCond .ge 24, 3) := by decide +kernel
theorem dX11_liftAll_106 : decode cX11_liftAll 106 = .ok (.iinc 3 (-1), 3) := by decide +kernel
theorem dX11_liftAll_109 : decode cX11_liftAll 109 = .ok (.iload_n 3, 1) := by decide +kernel
theorem dX11_liftAll_110 : decode cX11_liftAll 110 = .ok (.ifCond .le 52, 3) := by decide +kernel
theorem dX11_liftAll_113 : decode cX11_liftAll 113 = .ok (.aload_n 0, 1) := by decide +kernel
theorem dX11_liftAll_114 : decode cX11_liftAll 114 = .ok (.iload_n 1, 1) := by decide +kernel
theorem dX11_liftAll_115 : decode cX11_liftAll 115 = .ok (.aload_n 0, 1) := by decide +kernel
theorem dX11_liftAll_116 : decode cX11_liftAll 116 = .ok (.getfield 110, 3) := by decide +kernel
theorem dX11_liftAll_119 : decode cX11_liftAll 119 = .ok (.iload_n 3, 1) := by decide +kernel
theorem dX11_liftAll_120 : decode cX11_liftAll 120 = .ok (.iaload, 1) := by decide +kernel
theorem dX11_liftAll_121 : decode cX11_liftAll 121 = .ok (.invokevirtual 548, 3) := by decide +kernel
theorem dX11_liftAll_124 : decode cX11_liftAll 124 = .ok (.goto 38, 3) := by decide +kernel
theorem dX11_liftAll_127 : decode cX11_liftAll 127 = .ok (.aload_n 0, 1) := by decide +kernel
theorem dX11_liftAll_128 : decode cX11_liftAll 128 = .ok (.getfield 80, 3) := by decide +kernel
theorem dX11_liftAll_131 : decode cX11_liftAll 131 = .ok (.iload 4, 2) := by decide +kernel
theorem dX11_liftAll_133 : decode cX11_liftAll 133 = .ok (.iaload, 1) := by decide +kernel
theorem dX11_liftAll_134 : decode cX11_liftAll 134 = .ok (.ifCond .lt 18, 3) := by decide +kernel
theorem dX11_liftAll_137 : decode cX11_liftAll 137 = .ok (.aload_n 0, 1) := by decide +kernel
theorem dX11_liftAll_138 : decode cX11_liftAll 138 = .ok (.iload_n 1, 1) := by decide +kernel
theorem dX11_liftAll_139 : decode cX11_liftAll 139 = .ok (.aload_n 0, 1) := by decide +kernel
theorem dX11_liftAll_140 : decode cX11_liftAll 140 = .ok (.getfield 80, 3) := by decide +kernel
theorem dX11_liftAll_143 : decode cX11_liftAll 143 = .ok (.iload 4, 2) := by decide +kernel
theorem dX11_liftAll_145 : decode cX11_liftAll 145 = .ok (.iaload, 1) := by decide +kernel
theorem dX11_liftAll_146 : decode cX11_liftAll 146 = .ok (.invokevirtual 551, 3) := by decide +kernel
theorem dX11_liftAll_149 : decode cX11_liftAll 149 = .ok (.goto 13, 3) := by decide +kernel
theorem dX11_liftAll_152 : decode cX11_liftAll 152 = .ok (.aload_n 0, 1) := by decide +kernel
theorem dX11_liftAll_153 : decode cX11_liftAll 153 = .ok (.iload_n 3, 1) := by decide +kernel
theorem dX11_liftAll_154 : decode cX11_liftAll 154 = .ok (.iload 4, 2) := by decide +kernel
theorem dX11_liftAll_156 : decode cX11_liftAll 156 = .ok (.invokevirtual 505, 3) := by decide +kernel
theorem dX11_liftAll_159 : decode cX11_liftAll 159 = .ok (.iinc 3 1, 3) := by decide +kernel
theorem dX11_liftAll_162 : decode cX11_liftAll 162 = .ok (.goto (-74), 3) := by decide +kernel
theorem dX11_liftAll_165 : decode cX11_liftAll 165 = .ok (.aload_n 0, 1) := by decide +kernel
theorem dX11_liftAll_166 : decode cX11_liftAll 166 = .ok (.dup, 1) := by decide +kernel
theorem dX11_liftAll_167 : decode cX11_liftAll 167 = .ok (.getfield 526, 3) := by decide +kernel
theorem dX11_liftAll_170 : decode cX11_liftAll 170 = .ok (.iconst 1, 1) := by decide +kernel
theorem dX11_liftAll_171 : decode cX11_liftAll 171 = .ok (.isub, 1) := by decide +kernel
theorem dX11_liftAll_172 : decode cX11_liftAll 172 = .ok (.putfield 526, 3) := by decide +kernel
theorem dX11_liftAll_175 : decode cX11_liftAll 175 = .ok (.aload_n 0, 1) := by decide +kernel
theorem dX11_liftAll_176 : decode cX11_liftAll 176 = .ok (.getfield 165, 3) := by decide +kernel
theorem dX11_liftAll_179 : decode cX11_liftAll 179 = .ok (.iload_n 1, 1) := by decide +kernel
theorem dX11_liftAll_180 : decode cX11_liftAll 180 = .ok (.aload_n 0, 1) := by decide +kernel
theorem dX11_liftAll_181 : decode cX11_liftAll 181 = .ok (.getfield 174, 3) := by decide +kernel
theorem dX11_liftAll_184 : decode cX11_liftAll 184 = .ok (.aload_n 0, 1) := by decide +kernel
theorem dX11_liftAll_185 : decode cX11_liftAll 185 = .ok (.getfield 526, 3) := by decide +kernel
theorem dX11_liftAll_188 : decode cX11_liftAll 188 = .ok (.iaload, 1) := by decide +kernel
theorem dX11_liftAll_189 : decode cX11_liftAll 189 = .ok (.iastore, 1) := by decide +kernel
theorem dX11_liftAll_190 : decode cX11_liftAll 190 = .ok (.aload_n 0, 1) := by decide +kernel
theorem dX11_liftAll_191 : decode cX11_liftAll 191 = .ok (.getfield 162, 3) := by decide +kernel
theorem dX11_liftAll_194 : decode cX11_liftAll 194 = .ok (.iload_n 1, 1) := by decide +kernel
theorem dX11_liftAll_195 : decode cX11_liftAll 195 = .ok (.iaload, 1) := by decide +kernel
theorem dX11_liftAll_196 : decode cX11_liftAll 196 = .ok (.istore 4, 2) := by decide +kernel
theorem dX11_liftAll_198 : decode cX11_liftAll 198 = .ok (.iload 4, 2) := by decide +kernel
theorem dX11_liftAll_200 : decode cX11_liftAll 200 = .ok (.aload_n 0, 1) := by decide +kernel
theorem dX11_liftAll_201 : decode cX11_liftAll 201 = .ok (.getfield 520, 3) := by decide +kernel
theorem dX11_liftAll_204 : decode cX11_liftAll 204 = .ok (.if_icmp .ge 17, 3) := by decide +kernel
theorem dX11_liftAll_207 : decode cX11_liftAll 207 = .ok (.aload_n 0, 1) := by decide +kernel
theorem dX11_liftAll_208 : decode cX11_liftAll 208 = .ok (.getfield 141, 3) := by decide +kernel
theorem dX11_liftAll_211 : decode cX11_liftAll 211 = .ok (.iload 4, 2) := by decide +kernel
theorem dX11_liftAll_213 : decode cX11_liftAll 213 = .ok (.iload_n 1, 1) := by decide +kernel
theorem dX11_liftAll_214 : decode cX11_liftAll 214 = .ok (.iastore, 1) := by decide +kernel
theorem dX11_liftAll_215 : decode cX11_liftAll 215 = .ok (.iinc 4 1, 3) := by decide +kernel
theorem dX11_liftAll_218 : decode cX11_liftAll 218 = .ok (.goto (-20), 3) := by decide +kernel
theorem dX11_liftAll_221 : decode cX11_liftAll 221 = .ok (.aload_n 0, 1) := by decide +kernel
theorem dX11_liftAll_222 : decode cX11_liftAll 222 = .ok (.getfield 138, 3) := by decide +kernel
theorem dX11_liftAll_225 : decode cX11_liftAll 225 = .ok (.aload_n 0, 1) := by decide +kernel
theorem dX11_liftAll_226 : decode cX11_liftAll 226 = .ok (.getfield 165, 3) := by decide +kernel
theorem dX11_liftAll_229 : decode cX11_liftAll 229 = .ok (.iload_n 1, 1) := by decide +kernel
theorem dX11_liftAll_230 : decode cX11_liftAll 230 = .ok (.iaload, 1) := by decide +kernel
theorem dX11_liftAll_231 : decode cX11_liftAll 231 = .ok (.iaload, 1) := by decide +kernel
theorem dX11_liftAll_232 : decode cX11_liftAll 232 = .ok (.bipush 40, 2) := by decide +kernel
theorem dX11_liftAll_234 : decode cX11_liftAll 234 = .ok (.if_icmp .gt 14, 3) := by decide +kernel
theorem dX11_liftAll_237 : decode cX11_liftAll 237 = .ok (.aload_n 0, 1) := by decide +kernel
theorem dX11_liftAll_238 : decode cX11_liftAll 238 = .ok (.getfield 168, 3) := by decide +kernel
theorem dX11_liftAll_241 : decode cX11_liftAll 241 = .ok (.iload_n 1, 1) := by decide +kernel
theorem dX11_liftAll_242 : decode cX11_liftAll 242 = .ok (.iaload, 1) := by decide +kernel
theorem dX11_liftAll_243 : decode cX11_liftAll 243 = .ok (.bipush 40, 2) := by decide +kernel
theorem dX11_liftAll_245 : decode cX11_liftAll 245 = .ok (.if_icmp .le 16, 3) := by decide +kernel
theorem dX11_liftAll_248 : decode cX11_liftAll 248 = .ok (.aload_n 0, 1) := by decide +kernel
theorem dX11_liftAll_249 : decode cX11_liftAll 249 = .ok (.bipush 8, 2) := by decide +kernel
theorem dX11_liftAll_251 : decode cX11_liftAll 251 = .ok (.aload_n 0, 1) := by decide +kernel
theorem dX11_liftAll_252 : decode cX11_liftAll 252 = .ok (.getfield 53, 3) := by decide +kernel
theorem dX11_liftAll_255 : decode cX11_liftAll 255 = .ok (.iload_n 1, 1) := by decide +kernel
theorem dX11_liftAll_256 : decode cX11_liftAll 256 = .ok (.iaload, 1) := by decide +kernel
theorem dX11_liftAll_257 : decode cX11_liftAll 257 = .ok (.invokevirtual 317, 3) := by decide +kernel
theorem dX11_liftAll_260 : decode cX11_liftAll 260 = .ok (.return_, 1) := by decide +kernel
theorem dX11_liftAll_261 : decode cX11_liftAll 261 = .ok (.iinc 1 1, 3) := by decide +kernel
theorem dX11_liftAll_264 : decode cX11_liftAll 264 = .ok (.goto (-247), 3) := by decide +kernel
theorem dX11_liftAll_267 : decode cX11_liftAll 267 = .ok (.return_, 1) := by decide +kernel
theorem mw_X11_liftAll : MW yX11_liftAll (Cond.code yX11_liftAll cX11_liftAll 5 (Option.none : Option Jvm.ClassFile.FieldType)) cX11_liftAll 5 (Option.none : Option Jvm.ClassFile.FieldType) 0 := ⟨rfl, ⟨(lw_all_tbl q3168), rfl, (lw_all_tbl q173)⟩, rfl, ⟨by decide, by decide⟩, by decide +kernel⟩
abbrev okt_liftAll_198 (x : Int × Int) : Prop := R32 x.1 ∧ R32 x.2
abbrev lvt_liftAll_198 (Γ : Gm) (x : Int × Int) : List (Nat × Value) := [(0, vA (mg Γ) 21), (1, vI x.1), (4, vI x.2)]
noncomputable def t_liftAll_198b {A : Type} (k_221 : Int → Mo TS A) (l1 : Int) (l4 : Int) : Mo TS ((Int × Int) ⊕ A) :=
  bnd (gs 63) fun v1 =>
  if v1 ≤ l4 then
    lo (k_221 l1)
  else
    bnd (wr 71 7000 l4 l1) fun _ =>
    pr (.inl (l1, (w32 (l4 + 1))))
theorem st_liftAll_198b {Γ : Gm} {h : CH} {d : Nat} (hT : HT h) (o : Ok Γ "LazyForgeModel" cX11_liftAll 5 (Option.none : Option Jvm.ClassFile.FieldType) (d + 2)) {A : Type} {K : A → TS → Prop} (k_221 : Int → Mo TS A) (hk_221 : ∀ (l1 : Int), R32 l1 → Sx Γ (fun t => (h, t)) K 221 [(0, vA (mg Γ) 21), (1, vI l1)] [] (k_221 l1)) (l1 : Int) (l4 : Int) (hl1 : R32 l1) (hl4 : R32 l4) : Sx Γ (fun t => (h, t)) (KL Γ (fun t => (h, t)) okt_liftAll_198 K 198 (lvt_liftAll_198 Γ) []) 198 [(0, vA (mg Γ) 21), (1, vI l1), (4, vI l4)] [] (t_liftAll_198b k_221 l1 l4) := by
  unfold t_liftAll_198b
  refine s_iload o dX11_liftAll_198 2 rfl ?_
  refine s_aload_n o dX11_liftAll_200 rfl 0 rfl ?_
  refine r_tgf vI rfl o hT tf_lifted tj_lifted (lw_all_tbl q2567) dX11_liftAll_201 (fun v1 hv1 => ?_)
  refine s_icmp_ge (tgt := 221) o dX11_liftAll_204 (by decide) hl4 hv1 ?_ ?_
  · refine r_to [(0, vA (mg Γ) 21), (1, vI l1)] [0, 1] rfl ?_
    exact s_lo (hk_221 l1 hl1)
  · refine s_aload_n o dX11_liftAll_207 rfl 0 rfl ?_
    refine s_tga (x := 65) o hT tf_liftFunctions ta_liftFunctions (lw_all_tbl q2575) dX11_liftAll_208 ?_
    refine s_iload o dX11_liftAll_211 2 rfl ?_
    refine s_iload_n o dX11_liftAll_213 rfl 1 rfl ?_
    refine r_tiast o hT tr_liftFunctions hl4 hl1 dX11_liftAll_214 ?_
    refine r_iinc (j := 2) o dX11_liftAll_215 rfl rfl [(0, vA (mg Γ) 21), (1, vI l1)] [0, 1] rfl ⟨(Nat.ne_of_beq_eq_false rfl), (fun _ => (vA_cat (mg Γ) 21)), ⟨(Nat.ne_of_beq_eq_false rfl), (fun _ => rfl), trivial⟩⟩ ?_
    refine s_goto (tgt := 198) o dX11_liftAll_218 (by decide) ?_
    refine r_to [(0, vA (mg Γ) 21), (1, vI l1), (4, vI (w32 (l4 + 1)))] [1, 2, 0] rfl ?_
    exact s_back (⟨hl1, (w32_R _)⟩) rfl
noncomputable def t_liftAll_198 {A : Type} (k_221 : Int → Mo TS A) (l1 : Int) (l4 : Int) : Mo TS A := Loop (fun x => t_liftAll_198b k_221 x.1 x.2) (l1, l4)
theorem st_liftAll_198 {Γ : Gm} {h : CH} {d : Nat} (hT : HT h) (o : Ok Γ "LazyForgeModel" cX11_liftAll 5 (Option.none : Option Jvm.ClassFile.FieldType) (d + 2)) {A : Type} {K : A → TS → Prop} (k_221 : Int → Mo TS A) (hk_221 : ∀ (l1 : Int), R32 l1 → Sx Γ (fun t => (h, t)) K 221 [(0, vA (mg Γ) 21), (1, vI l1)] [] (k_221 l1)) (l1 : Int) (l4 : Int) (hl1 : R32 l1) (hl4 : R32 l4) : Sx Γ (fun t => (h, t)) K 198 [(0, vA (mg Γ) 21), (1, vI l1), (4, vI l4)] [] (t_liftAll_198 k_221 l1 l4) :=
  s_loop okt_liftAll_198 (lvt_liftAll_198 Γ) (fun x hx => st_liftAll_198b hT o k_221 hk_221 x.1 x.2 hx.1 hx.2) (x := (l1, l4)) ⟨hl1, hl4⟩
abbrev okt_liftAll_88 (x : Int × Int) : Prop := R32 x.1 ∧ R32 x.2
abbrev lvt_liftAll_88 (Γ : Gm) (x : Int × Int) : List (Nat × Value) := [(0, vA (mg Γ) 21), (1, vI x.1), (3, vI x.2)]
noncomputable def t_liftAll_162 {A : Type} (k_165 : Int → Mo TS A) (l1 : Int) (l3 : Int) : Mo TS ((Int × Int) ⊕ A) :=
  pr (.inl (l1, l3))
theorem st_liftAll_162 {Γ : Gm} {h : CH} {d : Nat} (hT : HT h) (o : Ok Γ "LazyForgeModel" cX11_liftAll 5 (Option.none : Option Jvm.ClassFile.FieldType) (d + 2)) {A : Type} {K : A → TS → Prop}  (k_165 : Int → Mo TS A) (hk_165 : ∀ (l1 : Int), R32 l1 → Sx Γ (fun t => (h, t)) K 165 [(0, vA (mg Γ) 21), (1, vI l1)] [] (k_165 l1)) (l1 : Int) (l3 : Int) (hl1 : R32 l1) (hl3 : R32 l3) : Sx Γ (fun t => (h, t)) (KL Γ (fun t => (h, t)) okt_liftAll_88 K 88 (lvt_liftAll_88 Γ) []) 162 [(0, vA (mg Γ) 21), (1, vI l1), (3, vI l3)] [] (t_liftAll_162 k_165 l1 l3) := by
  unfold t_liftAll_162
  refine s_goto (tgt := 88) o dX11_liftAll_162 (by decide) ?_
  exact s_back (⟨hl1, hl3⟩) rfl
noncomputable def t_liftAll_88b {A : Type} (k_165 : Int → Mo TS A) (l1 : Int) (l3 : Int) : Mo TS ((Int × Int) ⊕ A) :=
  if l3 ≤ 0 then
    lo (k_165 l1)
  else
    bnd (t_nextChild (w32 (l3 - 1))) fun v1 =>
    if 0 ≤ v1 then
      bnd (rd 47 3200 v1) fun v2 =>
      if v2 < 0 then
        bnd (t_beginAt l3 v1) fun _ =>
        t_liftAll_162 k_165 l1 (w32 (l3 + 1))
      else
        bnd (rd 47 3200 v1) fun v3 =>
        bnd (t_liftFunction l1 v3) fun _ =>
        t_liftAll_162 k_165 l1 l3
    else
      if (w32 (l3 + (-1))) ≤ 0 then
        t_liftAll_162 k_165 l1 (w32 (l3 + (-1)))
      else
        bnd (rd 60 3200 (w32 (l3 + (-1)))) fun v4 =>
        bnd (t_closePart l1 v4) fun _ =>
        t_liftAll_162 k_165 l1 (w32 (l3 + (-1)))
theorem st_liftAll_88b {Γ : Gm} {h : CH} {d : Nat} (hT : HT h) (o : Ok Γ "LazyForgeModel" cX11_liftAll 5 (Option.none : Option Jvm.ClassFile.FieldType) (d + 2)) {A : Type} {K : A → TS → Prop} (k_165 : Int → Mo TS A) (hk_165 : ∀ (l1 : Int), R32 l1 → Sx Γ (fun t => (h, t)) K 165 [(0, vA (mg Γ) 21), (1, vI l1)] [] (k_165 l1)) (l1 : Int) (l3 : Int) (hl1 : R32 l1) (hl3 : R32 l3) : Sx Γ (fun t => (h, t)) (KL Γ (fun t => (h, t)) okt_liftAll_88 K 88 (lvt_liftAll_88 Γ) []) 88 [(0, vA (mg Γ) 21), (1, vI l1), (3, vI l3)] [] (t_liftAll_88b k_165 l1 l3) := by
  unfold t_liftAll_88b
  refine s_iload_n o dX11_liftAll_88 rfl 2 rfl ?_
  refine s_if_le (tgt := 165) o dX11_liftAll_89 (by decide) hl3 ?_ ?_
  · refine r_to [(0, vA (mg Γ) 21), (1, vI l1)] [0, 1] rfl ?_
    exact s_lo (hk_165 l1 hl1)
  · refine s_aload_n o dX11_liftAll_92 rfl 0 rfl ?_
    refine s_iload_n o dX11_liftAll_93 rfl 2 rfl ?_
    refine s_iconst o dX11_liftAll_94 ?_
    refine s_isub o dX11_liftAll_95 ?_
    refine s_cv (d := d + 1) (C := "LazyForgeModel") (As := [vI (w32 (l3 - 1))]) (st := []) o (st_nextChild (mg Γ) d h hT (w32 (l3 - 1)) (w32_R _)) mw_X11_nextChild rfl (Or.inl (lw_all_tbl q3145)) (lw_all_tbl qs105) (lw_all_tbl q3147) (fun t => rc_t o hT t) wt_0 rfl dX11_liftAll_96 rfl (rs := fun r => [vI r]) (fun _ => rfl) (fun v1 hv1 => ?_)
    refine r_istore o dX11_liftAll_99 rfl ⟨(Nat.ne_of_beq_eq_false rfl), (fun _ => (vA_cat (mg Γ) 21)), ⟨(Nat.ne_of_beq_eq_false rfl), (fun _ => rfl), ⟨(Nat.ne_of_beq_eq_false rfl), (fun _ => rfl), trivial⟩⟩⟩ ?_
    refine s_iload o dX11_liftAll_101 0 rfl ?_
    refine s_if_ge (tgt := 127) o dX11_liftAll_103 (by decide) (hv1 _ rfl) ?_ ?_
    · refine s_aload_n o dX11_liftAll_127 rfl 1 rfl ?_
      refine s_tga (x := 45) o hT tf_functionOf ta_functionOf (lw_all_tbl q2551) dX11_liftAll_128 ?_
      refine s_iload o dX11_liftAll_131 0 rfl ?_
      refine r_tiald o hT tr_functionOf (hv1 _ rfl) dX11_liftAll_133 (fun v2 hv2 => ?_)
      refine s_if_lt (tgt := 152) o dX11_liftAll_134 (by decide) hv2 ?_ ?_
      · refine s_aload_n o dX11_liftAll_152 rfl 1 rfl ?_
        refine s_iload_n o dX11_liftAll_153 rfl 3 rfl ?_
        refine s_iload o dX11_liftAll_154 0 rfl ?_
        refine s_cv (d := d + 1) (C := "LazyForgeModel") (As := [vI l3, vI v1]) (st := []) o (st_beginAt (mg Γ) d h hT l3 v1 hl3 (hv1 _ rfl)) mw_X11_beginAt rfl (Or.inl (lw_all_tbl q3118)) (lw_all_tbl qs99) (lw_all_tbl q3120) (fun t => rc_t o hT t) wt_0 rfl dX11_liftAll_156 rfl (rs := fun _ => []) (fun _ => rfl) (fun _ _ => ?_)
        refine r_iinc (j := 3) o dX11_liftAll_159 rfl rfl [(4, vI v1), (0, vA (mg Γ) 21), (1, vI l1)] [0, 1, 2] rfl ⟨(Nat.ne_of_beq_eq_false rfl), (fun _ => rfl), ⟨(Nat.ne_of_beq_eq_false rfl), (fun _ => (vA_cat (mg Γ) 21)), ⟨(Nat.ne_of_beq_eq_false rfl), (fun _ => rfl), trivial⟩⟩⟩ ?_
        refine r_to [(0, vA (mg Γ) 21), (1, vI l1), (3, vI (w32 (l3 + 1)))] [2, 3, 0] rfl ?_
        exact st_liftAll_162 hT o k_165 hk_165 l1 (w32 (l3 + 1)) hl1 (w32_R _)
      · refine s_aload_n o dX11_liftAll_137 rfl 1 rfl ?_
        refine s_iload_n o dX11_liftAll_138 rfl 2 rfl ?_
        refine s_aload_n o dX11_liftAll_139 rfl 1 rfl ?_
        refine s_tga (x := 45) o hT tf_functionOf ta_functionOf (lw_all_tbl q2551) dX11_liftAll_140 ?_
        refine s_iload o dX11_liftAll_143 0 rfl ?_
        refine r_tiald o hT tr_functionOf (hv1 _ rfl) dX11_liftAll_145 (fun v3 hv3 => ?_)
        refine s_cv (d := d + 1) (C := "LazyForgeModel") (As := [vI l1, vI v3]) (st := []) o (st_liftFunction (mg Γ) d h hT l1 v3 hl1 hv3) mw_X11_liftFunction rfl (Or.inl (lw_all_tbl q3193)) (lw_all_tbl qs116) (lw_all_tbl q3195) (fun t => rc_t o hT t) wt_0 rfl dX11_liftAll_146 rfl (rs := fun _ => []) (fun _ => rfl) (fun _ _ => ?_)
        refine s_goto (tgt := 162) o dX11_liftAll_149 (by decide) ?_
        refine r_to [(0, vA (mg Γ) 21), (1, vI l1), (3, vI l3)] [1, 2, 3] rfl ?_
        exact st_liftAll_162 hT o k_165 hk_165 l1 l3 hl1 hl3
    · refine r_iinc (j := 3) o dX11_liftAll_106 rfl rfl [(4, vI v1), (0, vA (mg Γ) 21), (1, vI l1)] [0, 1, 2] rfl ⟨(Nat.ne_of_beq_eq_false rfl), (fun _ => rfl), ⟨(Nat.ne_of_beq_eq_false rfl), (fun _ => (vA_cat (mg Γ) 21)), ⟨(Nat.ne_of_beq_eq_false rfl), (fun _ => rfl), trivial⟩⟩⟩ ?_
      refine s_iload_n o dX11_liftAll_109 rfl 0 rfl ?_
      refine s_if_le (tgt := 162) o dX11_liftAll_110 (by decide) (w32_R _) ?_ ?_
      · refine r_to [(0, vA (mg Γ) 21), (1, vI l1), (3, vI (w32 (l3 + (-1))))] [2, 3, 0] rfl ?_
        exact st_liftAll_162 hT o k_165 hk_165 l1 (w32 (l3 + (-1))) hl1 (w32_R _)
      · refine s_aload_n o dX11_liftAll_113 rfl 2 rfl ?_
        refine s_iload_n o dX11_liftAll_114 rfl 3 rfl ?_
        refine s_aload_n o dX11_liftAll_115 rfl 2 rfl ?_
        refine s_tga (x := 55) o hT tf_walk ta_walk (lw_all_tbl q2564) dX11_liftAll_116 ?_
        refine s_iload_n o dX11_liftAll_119 rfl 0 rfl ?_
        refine r_tiald o hT tr_walk (w32_R _) dX11_liftAll_120 (fun v4 hv4 => ?_)
        refine s_cv (d := d + 1) (C := "LazyForgeModel") (As := [vI l1, vI v4]) (st := []) o (st_closePart (mg Γ) d h hT l1 v4 hl1 hv4) mw_X11_closePart rfl (Or.inl (lw_all_tbl q3169)) (lw_all_tbl qs111) (lw_all_tbl q3171) (fun t => rc_t o hT t) wt_0 rfl dX11_liftAll_121 rfl (rs := fun _ => []) (fun _ => rfl) (fun _ _ => ?_)
        refine s_goto (tgt := 162) o dX11_liftAll_124 (by decide) ?_
        refine r_to [(0, vA (mg Γ) 21), (1, vI l1), (3, vI (w32 (l3 + (-1))))] [2, 3, 0] rfl ?_
        exact st_liftAll_162 hT o k_165 hk_165 l1 (w32 (l3 + (-1))) hl1 (w32_R _)
noncomputable def t_liftAll_88 {A : Type} (k_165 : Int → Mo TS A) (l1 : Int) (l3 : Int) : Mo TS A := Loop (fun x => t_liftAll_88b k_165 x.1 x.2) (l1, l3)
theorem st_liftAll_88 {Γ : Gm} {h : CH} {d : Nat} (hT : HT h) (o : Ok Γ "LazyForgeModel" cX11_liftAll 5 (Option.none : Option Jvm.ClassFile.FieldType) (d + 2)) {A : Type} {K : A → TS → Prop} (k_165 : Int → Mo TS A) (hk_165 : ∀ (l1 : Int), R32 l1 → Sx Γ (fun t => (h, t)) K 165 [(0, vA (mg Γ) 21), (1, vI l1)] [] (k_165 l1)) (l1 : Int) (l3 : Int) (hl1 : R32 l1) (hl3 : R32 l3) : Sx Γ (fun t => (h, t)) K 88 [(0, vA (mg Γ) 21), (1, vI l1), (3, vI l3)] [] (t_liftAll_88 k_165 l1 l3) :=
  s_loop okt_liftAll_88 (lvt_liftAll_88 Γ) (fun x hx => st_liftAll_88b hT o k_165 hk_165 x.1 x.2 hx.1 hx.2) (x := (l1, l3)) ⟨hl1, hl3⟩
abbrev okt_liftAll_17 (x : Int) : Prop := R32 x
abbrev lvt_liftAll_17 (Γ : Gm) (x : Int) : List (Nat × Value) := [(0, vA (mg Γ) 21), (1, vI x)]
noncomputable def t_liftAll_17b {A : Type} (k_248 : Int → Mo TS A) (k_267 : Mo TS A) (l1 : Int) : Mo TS ((Int) ⊕ A) :=
  bnd (gs 46) fun v1 =>
  if v1 ≤ l1 then
    lo k_267
  else
    bnd (rd 30 640 l1) fun v2 =>
    bnd (gs 63) fun v3 =>
    bnd (wr 79 640 l1 v3) fun _ =>
    bnd (rd 48 640 l1) fun v4 =>
    bnd (rd 22 3200 v2) fun v5 =>
    bnd (wr 82 640 l1 (w32 (v4 + v5))) fun _ =>
    bnd (rd 48 640 l1) fun v6 =>
    bnd (rd 53 640 l1) fun v7 =>
    bnd (wr 81 640 l1 (w32 (v6 + v7))) fun _ =>
    bnd (t_beginAt 0 v2) fun _ =>
    t_liftAll_88
      (fun v8 => bnd (gs 83) fun v9 =>
    bnd (ss 83 (w32 (v9 - 1))) fun _ =>
    bnd (gs 83) fun v10 =>
    bnd (rd 84 7000 v10) fun v11 =>
    bnd (wr 80 640 v8 v11) fun _ =>
    bnd (rd 79 640 v8) fun v12 =>
    t_liftAll_198
      (fun v13 => bnd (rd 80 640 v13) fun v14 =>
    bnd (rd 70 7000 v14) fun v15 =>
    if 40 < v15 then
      lo (k_248 v13)
    else
      bnd (rd 81 640 v13) fun v16 =>
      if v16 ≤ 40 then
        pr (.inl (w32 (v13 + 1)))
      else
        lo (k_248 v13)) v8 v12) l1 1
theorem st_liftAll_17b {Γ : Gm} {h : CH} {d : Nat} (hT : HT h) (o : Ok Γ "LazyForgeModel" cX11_liftAll 5 (Option.none : Option Jvm.ClassFile.FieldType) (d + 2)) {A : Type} {K : A → TS → Prop} (k_248 : Int → Mo TS A) (k_267 : Mo TS A) (hk_248 : ∀ (l1 : Int), R32 l1 → Sx Γ (fun t => (h, t)) K 248 [(0, vA (mg Γ) 21), (1, vI l1)] [] (k_248 l1)) (hk_267 : Sx Γ (fun t => (h, t)) K 267 [] [] (k_267)) (l1 : Int) (hl1 : R32 l1) : Sx Γ (fun t => (h, t)) (KL Γ (fun t => (h, t)) okt_liftAll_17 K 17 (lvt_liftAll_17 Γ) []) 17 [(0, vA (mg Γ) 21), (1, vI l1)] [] (t_liftAll_17b k_248 k_267 l1) := by
  unfold t_liftAll_17b
  refine s_iload_n o dX11_liftAll_17 rfl 1 rfl ?_
  refine s_aload_n o dX11_liftAll_18 rfl 0 rfl ?_
  refine r_tgf vI rfl o hT tf_named tj_named (lw_all_tbl q2550) dX11_liftAll_19 (fun v1 hv1 => ?_)
  refine s_icmp_ge (tgt := 267) o dX11_liftAll_22 (by decide) hl1 hv1 ?_ ?_
  · refine r_to [] [] rfl ?_
    exact s_lo hk_267
  · refine s_aload_n o dX11_liftAll_25 rfl 0 rfl ?_
    refine s_tga (x := 37) o hT tf_functionNodes ta_functionNodes (lw_all_tbl q2534) dX11_liftAll_26 ?_
    refine s_iload_n o dX11_liftAll_29 rfl 1 rfl ?_
    refine r_tiald o hT tr_functionNodes hl1 dX11_liftAll_30 (fun v2 hv2 => ?_)
    refine r_istore_n o dX11_liftAll_31 rfl rfl ⟨(Nat.ne_of_beq_eq_false rfl), (fun _ => (vA_cat (mg Γ) 21)), ⟨(Nat.ne_of_beq_eq_false rfl), (fun _ => rfl), trivial⟩⟩ ?_
    refine s_aload_n o dX11_liftAll_32 rfl 1 rfl ?_
    refine s_tga (x := 72) o hT tf_begins ta_begins (lw_all_tbl q2583) dX11_liftAll_33 ?_
    refine s_iload_n o dX11_liftAll_36 rfl 2 rfl ?_
    refine s_aload_n o dX11_liftAll_37 rfl 1 rfl ?_
    refine r_tgf vI rfl o hT tf_lifted tj_lifted (lw_all_tbl q2567) dX11_liftAll_38 (fun v3 hv3 => ?_)
    refine r_tiast o hT tr_begins hl1 hv3 dX11_liftAll_41 ?_
    refine s_aload_n o dX11_liftAll_42 rfl 1 rfl ?_
    refine s_tga (x := 75) o hT tf_parameterCounts ta_parameterCounts (lw_all_tbl q2586) dX11_liftAll_43 ?_
    refine s_iload_n o dX11_liftAll_46 rfl 2 rfl ?_
    refine s_aload_n o dX11_liftAll_47 rfl 1 rfl ?_
    refine s_tga (x := 46) o hT tf_freeCounts ta_freeCounts (lw_all_tbl q2552) dX11_liftAll_48 ?_
    refine s_iload_n o dX11_liftAll_51 rfl 2 rfl ?_
    refine r_tiald o hT tr_freeCounts hl1 dX11_liftAll_52 (fun v4 hv4 => ?_)
    refine s_aload_n o dX11_liftAll_53 rfl 1 rfl ?_
    refine s_tga (x := 33) o hT tf_giveCounts ta_giveCounts (lw_all_tbl q2526) dX11_liftAll_54 ?_
    refine s_iload_n o dX11_liftAll_57 rfl 0 rfl ?_
    refine r_tiald o hT tr_giveCounts hv2 dX11_liftAll_58 (fun v5 hv5 => ?_)
    refine s_iadd o dX11_liftAll_59 ?_
    refine r_tiast o hT tr_parameterCounts hl1 (w32_R _) dX11_liftAll_60 ?_
    refine s_aload_n o dX11_liftAll_61 rfl 1 rfl ?_
    refine s_tga (x := 74) o hT tf_variableCounts ta_variableCounts (lw_all_tbl q2585) dX11_liftAll_62 ?_
    refine s_iload_n o dX11_liftAll_65 rfl 2 rfl ?_
    refine s_aload_n o dX11_liftAll_66 rfl 1 rfl ?_
    refine s_tga (x := 46) o hT tf_freeCounts ta_freeCounts (lw_all_tbl q2552) dX11_liftAll_67 ?_
    refine s_iload_n o dX11_liftAll_70 rfl 2 rfl ?_
    refine r_tiald o hT tr_freeCounts hl1 dX11_liftAll_71 (fun v6 hv6 => ?_)
    refine s_aload_n o dX11_liftAll_72 rfl 1 rfl ?_
    refine s_tga (x := 50) o hT tf_ownCounts ta_ownCounts (lw_all_tbl q2557) dX11_liftAll_73 ?_
    refine s_iload_n o dX11_liftAll_76 rfl 2 rfl ?_
    refine r_tiald o hT tr_ownCounts hl1 dX11_liftAll_77 (fun v7 hv7 => ?_)
    refine s_iadd o dX11_liftAll_78 ?_
    refine r_tiast o hT tr_variableCounts hl1 (w32_R _) dX11_liftAll_79 ?_
    refine s_iconst o dX11_liftAll_80 ?_
    refine r_istore_n o dX11_liftAll_81 rfl rfl ⟨(Nat.ne_of_beq_eq_false rfl), (fun _ => rfl), ⟨(Nat.ne_of_beq_eq_false rfl), (fun _ => (vA_cat (mg Γ) 21)), ⟨(Nat.ne_of_beq_eq_false rfl), (fun _ => rfl), trivial⟩⟩⟩ ?_
    refine s_aload_n o dX11_liftAll_82 rfl 2 rfl ?_
    refine s_iconst o dX11_liftAll_83 ?_
    refine s_iload_n o dX11_liftAll_84 rfl 1 rfl ?_
    refine s_cv (d := d + 1) (C := "LazyForgeModel") (As := [vI 0, vI v2]) (st := []) o (st_beginAt (mg Γ) d h hT 0 v2 (r32 rfl) hv2) mw_X11_beginAt rfl (Or.inl (lw_all_tbl q3118)) (lw_all_tbl qs99) (lw_all_tbl q3120) (fun t => rc_t o hT t) wt_0 rfl dX11_liftAll_85 rfl (rs := fun _ => []) (fun _ => rfl) (fun _ _ => ?_)
    refine r_to [(0, vA (mg Γ) 21), (1, vI l1), (3, vI 1)] [2, 3, 0] rfl ?_
    refine st_liftAll_88 hT o _ ?_ l1 1 hl1 (r32 rfl)
    · intro v8 hv8
      refine s_aload_n o dX11_liftAll_165 rfl 0 rfl ?_
      refine s_dup o dX11_liftAll_166 (vA_cat (mg Γ) 21) ?_
      refine r_tgf vI rfl o hT tf_held tj_held (lw_all_tbl q2587) dX11_liftAll_167 (fun v9 hv9 => ?_)
      refine s_iconst o dX11_liftAll_170 ?_
      refine s_isub o dX11_liftAll_171 ?_
      refine r_tpf vI rfl o hT tf_held tj_held (lw_all_tbl q2587) dX11_liftAll_172 (w32_R _) ty_int ?_
      refine s_aload_n o dX11_liftAll_175 rfl 0 rfl ?_
      refine s_tga (x := 73) o hT tf_roots ta_roots (lw_all_tbl q2584) dX11_liftAll_176 ?_
      refine s_iload_n o dX11_liftAll_179 rfl 1 rfl ?_
      refine s_aload_n o dX11_liftAll_180 rfl 0 rfl ?_
      refine s_tga (x := 76) o hT tf_heldNodes ta_heldNodes (lw_all_tbl q2588) dX11_liftAll_181 ?_
      refine s_aload_n o dX11_liftAll_184 rfl 0 rfl ?_
      refine r_tgf vI rfl o hT tf_held tj_held (lw_all_tbl q2587) dX11_liftAll_185 (fun v10 hv10 => ?_)
      refine r_tiald o hT tr_heldNodes hv10 dX11_liftAll_188 (fun v11 hv11 => ?_)
      refine r_tiast o hT tr_roots hv8 hv11 dX11_liftAll_189 ?_
      refine s_aload_n o dX11_liftAll_190 rfl 0 rfl ?_
      refine s_tga (x := 72) o hT tf_begins ta_begins (lw_all_tbl q2583) dX11_liftAll_191 ?_
      refine s_iload_n o dX11_liftAll_194 rfl 1 rfl ?_
      refine r_tiald o hT tr_begins hv8 dX11_liftAll_195 (fun v12 hv12 => ?_)
      refine r_istore o dX11_liftAll_196 rfl ⟨(Nat.ne_of_beq_eq_false rfl), (fun _ => (vA_cat (mg Γ) 21)), ⟨(Nat.ne_of_beq_eq_false rfl), (fun _ => rfl), trivial⟩⟩ ?_
      refine r_to [(0, vA (mg Γ) 21), (1, vI v8), (4, vI v12)] [1, 2, 0] rfl ?_
      refine st_liftAll_198 hT o _ ?_ v8 v12 hv8 hv12
      · intro v13 hv13
        refine s_aload_n o dX11_liftAll_221 rfl 0 rfl ?_
        refine s_tga (x := 64) o hT tf_heights ta_heights (lw_all_tbl q2574) dX11_liftAll_222 ?_
        refine s_aload_n o dX11_liftAll_225 rfl 0 rfl ?_
        refine s_tga (x := 73) o hT tf_roots ta_roots (lw_all_tbl q2584) dX11_liftAll_226 ?_
        refine s_iload_n o dX11_liftAll_229 rfl 1 rfl ?_
        refine r_tiald o hT tr_roots hv13 dX11_liftAll_230 (fun v14 hv14 => ?_)
        refine r_tiald o hT tr_heights hv14 dX11_liftAll_231 (fun v15 hv15 => ?_)
        refine s_bipush o dX11_liftAll_232 rfl ?_
        refine s_icmp_gt (tgt := 248) o dX11_liftAll_234 (by decide) hv15 (r32 rfl) ?_ ?_
        · exact s_lo (hk_248 v13 hv13)
        · refine s_aload_n o dX11_liftAll_237 rfl 0 rfl ?_
          refine s_tga (x := 74) o hT tf_variableCounts ta_variableCounts (lw_all_tbl q2585) dX11_liftAll_238 ?_
          refine s_iload_n o dX11_liftAll_241 rfl 1 rfl ?_
          refine r_tiald o hT tr_variableCounts hv13 dX11_liftAll_242 (fun v16 hv16 => ?_)
          refine s_bipush o dX11_liftAll_243 rfl ?_
          refine s_icmp_le (tgt := 261) o dX11_liftAll_245 (by decide) hv16 (r32 rfl) ?_ ?_
          · refine r_iinc (j := 1) o dX11_liftAll_261 rfl rfl [(0, vA (mg Γ) 21)] [0] rfl ⟨(Nat.ne_of_beq_eq_false rfl), (fun _ => (vA_cat (mg Γ) 21)), trivial⟩ ?_
            refine s_goto (tgt := 17) o dX11_liftAll_264 (by decide) ?_
            refine r_to [(0, vA (mg Γ) 21), (1, vI (w32 (v13 + 1)))] [1, 0] rfl ?_
            exact s_back (w32_R _) rfl
          · exact s_lo (hk_248 v13 hv13)
noncomputable def t_liftAll_17 {A : Type} (k_248 : Int → Mo TS A) (k_267 : Mo TS A) (l1 : Int) : Mo TS A := Loop (fun x => t_liftAll_17b k_248 k_267 x) l1
theorem st_liftAll_17 {Γ : Gm} {h : CH} {d : Nat} (hT : HT h) (o : Ok Γ "LazyForgeModel" cX11_liftAll 5 (Option.none : Option Jvm.ClassFile.FieldType) (d + 2)) {A : Type} {K : A → TS → Prop} (k_248 : Int → Mo TS A) (k_267 : Mo TS A) (hk_248 : ∀ (l1 : Int), R32 l1 → Sx Γ (fun t => (h, t)) K 248 [(0, vA (mg Γ) 21), (1, vI l1)] [] (k_248 l1)) (hk_267 : Sx Γ (fun t => (h, t)) K 267 [] [] (k_267)) (l1 : Int) (hl1 : R32 l1) : Sx Γ (fun t => (h, t)) K 17 [(0, vA (mg Γ) 21), (1, vI l1)] [] (t_liftAll_17 k_248 k_267 l1) :=
  s_loop okt_liftAll_17 (lvt_liftAll_17 Γ) (fun x hx => st_liftAll_17b hT o k_248 k_267 hk_248 hk_267 x hx) (x := l1) hl1
noncomputable def t_liftAll : Mo TS Int :=
  bnd (ss 63 0) fun _ =>
  bnd (ss 73 0) fun _ =>
  bnd (ss 83 0) fun _ =>
  t_liftAll_17
    (fun v1 => bnd (rd 29 640 v1) fun v2 =>
  bnd (t_fail 8 v2) fun _ =>
  pr 0)
    (pr 0) 0
theorem st_liftAll (g : gC) (d : Nat) (h : CH) (hT : HT h) : SF g yX11_liftAll (Cond.code yX11_liftAll cX11_liftAll 5 (Option.none : Option Jvm.ClassFile.FieldType)) (Option.none : Option Jvm.ClassFile.FieldType) (d + 2) [vA g 21] (fun t => (h, t)) (t_liftAll) := by
  refine SF.of (lv := [(0, vA g 21)]) (by decide) (wt_A wt_0) rfl (by simp only [la_A, la_I, la_J, la_0]) (fun Γ hg hnm o => ?_)
  subst hg
  have o : Ok Γ "LazyForgeModel" cX11_liftAll 5 (Option.none : Option Jvm.ClassFile.FieldType) (d + 2) := o
  unfold t_liftAll
  refine s_aload_n o dX11_liftAll_0 rfl 0 rfl ?_
  refine s_iconst o dX11_liftAll_1 ?_
  refine r_tpf vI rfl o hT tf_lifted tj_lifted (lw_all_tbl q2567) dX11_liftAll_2 (r32 rfl) ty_int ?_
  refine s_aload_n o dX11_liftAll_5 rfl 0 rfl ?_
  refine s_iconst o dX11_liftAll_6 ?_
  refine r_tpf vI rfl o hT tf_childTop tj_childTop (lw_all_tbl q2577) dX11_liftAll_7 (r32 rfl) ty_int ?_
  refine s_aload_n o dX11_liftAll_10 rfl 0 rfl ?_
  refine s_iconst o dX11_liftAll_11 ?_
  refine r_tpf vI rfl o hT tf_held tj_held (lw_all_tbl q2587) dX11_liftAll_12 (r32 rfl) ty_int ?_
  refine s_iconst o dX11_liftAll_15 ?_
  refine r_istore_n o dX11_liftAll_16 rfl rfl ⟨(Nat.ne_of_beq_eq_false rfl), (fun _ => (vA_cat (mg Γ) 21)), trivial⟩ ?_
  refine r_to [(0, vA (mg Γ) 21), (1, vI 0)] [1, 0] rfl ?_
  refine st_liftAll_17 hT o _ _ ?_ ?_ 0 (r32 rfl)
  · intro v1 hv1
    refine s_aload_n o dX11_liftAll_248 rfl 0 rfl ?_
    refine s_bipush o dX11_liftAll_249 rfl ?_
    refine s_aload_n o dX11_liftAll_251 rfl 0 rfl ?_
    refine s_tga (x := 36) o hT tf_functionPlaces ta_functionPlaces (lw_all_tbl q2533) dX11_liftAll_252 ?_
    refine s_iload_n o dX11_liftAll_255 rfl 1 rfl ?_
    refine r_tiald o hT tr_functionPlaces hv1 dX11_liftAll_256 (fun v2 hv2 => ?_)
    refine s_cv (d := d + 1) (C := "LazyForgeModel") (As := [vI 8, vI v2]) (st := []) o (st_fail (mg Γ) (d + 1) h hT 8 v2 (r32 rfl) hv2) mw_X11_fail rfl (Or.inl (lw_all_tbl q2975)) (lw_all_tbl qs64) (lw_all_tbl q2977) (fun t => rc_t o hT t) wt_0 rfl dX11_liftAll_257 rfl (rs := fun _ => []) (fun _ => rfl) (fun _ _ => ?_)
    exact s_vret o rfl dX11_liftAll_260 (fun _ hh => hh)
  · exact s_vret o rfl dX11_liftAll_267 (fun _ hh => hh)
theorem dX11_partBit_0 : decode cX11_partBit 0 = .ok (.aload_n 0, 1) := by decide +kernel
theorem dX11_partBit_1 : decode cX11_partBit 1 = .ok (.getfield 128, 3) := by decide +kernel
theorem dX11_partBit_4 : decode cX11_partBit 4 = .ok (.iload_n 1, 1) := by decide +kernel
theorem dX11_partBit_5 : decode cX11_partBit 5 = .ok (.iaload, 1) := by decide +kernel
theorem dX11_partBit_6 : decode cX11_partBit 6 = .ok (.istore_n 2, 1) := by decide +kernel
theorem dX11_partBit_7 : decode cX11_partBit 7 = .ok (.aload_n 0, 1) := by decide +kernel
theorem dX11_partBit_8 : decode cX11_partBit 8 = .ok (.getfield 119, 3) := by decide +kernel
theorem dX11_partBit_11 : decode cX11_partBit 11 = .ok (.iload_n 1, 1) := by decide +kernel
theorem dX11_partBit_12 : decode cX11_partBit 12 = .ok (.iaload, 1) := by decide +kernel
theorem dX11_partBit_13 : decode cX11_partBit 13 = .ok (.tableswitch 239 0 13 #[219, 239, 239, 153, 239, 119, 233, 239, 239, 239, 239, 117, 83, 71], 71) := by decide +kernel
theorem dX11_partBit_84 : decode cX11_partBit 84 = .ok (.aload_n 0, 1) := by decide +kernel
theorem dX11_partBit_85 : decode cX11_partBit 85 = .ok (.getfield 184, 3) := by decide +kernel
theorem dX11_partBit_88 : decode cX11_partBit 88 = .ok (.aload_n 0, 1) := by decide +kernel
theorem dX11_partBit_89 : decode cX11_partBit 89 = .ok (.getfield 122, 3) := by decide +kernel
theorem dX11_partBit_92 : decode cX11_partBit 92 = .ok (.iload_n 1, 1) := by decide +kernel
theorem dX11_partBit_93 : decode cX11_partBit 93 = .ok (.iaload, 1) := by decide +kernel
theorem dX11_partBit_94 : decode cX11_partBit 94 = .ok (.baload, 1) := by decide +kernel
theorem dX11_partBit_95 : decode cX11_partBit 95 = .ok (.ireturn, 1) := by decide +kernel
theorem dX11_partBit_96 : decode cX11_partBit 96 = .ok (.aload_n 0, 1) := by decide +kernel
theorem dX11_partBit_97 : decode cX11_partBit 97 = .ok (.getfield 171, 3) := by decide +kernel
theorem dX11_partBit_100 : decode cX11_partBit 100 = .ok (.aload_n 0, 1) := by decide +kernel
theorem dX11_partBit_101 : decode cX11_partBit 101 = .ok (.getfield 122, 3) := by decide +kernel
theorem dX11_partBit_104 : decode cX11_partBit 104 = .ok (.iload_n 1, 1) := by decide +kernel
theorem dX11_partBit_105 : decode cX11_partBit 105 = .ok (.iaload, 1) := by decide +kernel
theorem dX11_partBit_106 : decode cX11_partBit 106 = .ok (.iaload, 1) := by decide +kernel
theorem dX11_partBit_107 : decode cX11_partBit 107 = .ok (.ifCond .gt 17, 3) := by decide +kernel
theorem dX11_partBit_110 : decode cX11_partBit 110 = .ok (.aload_n 0, 1) := by decide +kernel
theorem dX11_partBit_111 : decode cX11_partBit 111 = .ok (.aload_n 0, 1) := by decide +kernel
theorem dX11_partBit_112 : decode cX11_partBit 112 = .ok (.getfield 122, 3) := by decide +kernel
theorem dX11_partBit_115 : decode cX11_partBit 115 = .ok (.iload_n 1, 1) := by decide +kernel
theorem dX11_partBit_116 : decode cX11_partBit 116 = .ok (.iaload, 1) := by decide +kernel
theorem dX11_partBit_117 : decode cX11_partBit 117 = .ok (.iconst 0, 1) := by decide +kernel
theorem dX11_partBit_118 : decode cX11_partBit 118 = .ok (.invokevirtual 554, 3) := by decide +kernel
theorem dX11_partBit_121 : decode cX11_partBit 121 = .ok (.ifCond .eq 7, 3) := by decide +kernel
theorem dX11_partBit_124 : decode cX11_partBit 124 = .ok (.iconst 1, 1) := by decide +kernel
theorem dX11_partBit_125 : decode cX11_partBit 125 = .ok (.goto 4, 3) := by decide +kernel
theorem dX11_partBit_128 : decode cX11_partBit 128 = .ok (.iconst 0, 1) := by decide +kernel
theorem dX11_partBit_129 : decode cX11_partBit 129 = .ok (.ireturn, 1) := by decide +kernel
theorem dX11_partBit_130 : decode cX11_partBit 130 = .ok (.iconst 0, 1) := by decide +kernel
theorem dX11_partBit_131 : decode cX11_partBit 131 = .ok (.ireturn, 1) := by decide +kernel
theorem dX11_partBit_132 : decode cX11_partBit 132 = .ok (.aload_n 0, 1) := by decide +kernel
theorem dX11_partBit_133 : decode cX11_partBit 133 = .ok (.getfield 181, 3) := by decide +kernel
theorem dX11_partBit_136 : decode cX11_partBit 136 = .ok (.aload_n 0, 1) := by decide +kernel
theorem dX11_partBit_137 : decode cX11_partBit 137 = .ok (.iload_n 1, 1) := by decide +kernel
theorem dX11_partBit_138 : decode cX11_partBit 138 = .ok (.iconst 0, 1) := by decide +kernel
theorem dX11_partBit_139 : decode cX11_partBit 139 = .ok (.invokevirtual 545, 3) := by decide +kernel
theorem dX11_partBit_142 : decode cX11_partBit 142 = .ok (.baload, 1) := by decide +kernel
theorem dX11_partBit_143 : decode cX11_partBit 143 = .ok (.ifCond .eq 21, 3) := by decide +kernel
theorem dX11_partBit_146 : decode cX11_partBit 146 = .ok (.aload_n 0, 1) := by decide +kernel
theorem dX11_partBit_147 : decode cX11_partBit 147 = .ok (.getfield 181, 3) := by decide +kernel
theorem dX11_partBit_150 : decode cX11_partBit 150 = .ok (.aload_n 0, 1) := by decide +kernel
theorem dX11_partBit_151 : decode cX11_partBit 151 = .ok (.iload_n 1, 1) := by decide +kernel
theorem dX11_partBit_152 : decode cX11_partBit 152 = .ok (.iconst 1, 1) := by decide +kernel
theorem dX11_partBit_153 : decode cX11_partBit 153 = .ok (.invokevirtual 545, 3) := by decide +kernel
theorem dX11_partBit_156 : decode cX11_partBit 156 = .ok (.baload, 1) := by decide +kernel
theorem dX11_partBit_157 : decode cX11_partBit 157 = .ok (.ifCond .eq 7, 3) := by decide +kernel
theorem dX11_partBit_160 : decode cX11_partBit 160 = .ok (.iconst 1, 1) := by decide +kernel
theorem dX11_partBit_161 : decode cX11_partBit 161 = .ok (.goto 4, 3) := by decide +kernel
theorem dX11_partBit_164 : decode cX11_partBit 164 = .ok (.iconst 0, 1) := by decide +kernel
theorem dX11_partBit_165 : decode cX11_partBit 165 = .ok (.ireturn, 1) := by decide +kernel
theorem dX11_partBit_166 : decode cX11_partBit 166 = .ok (.iconst 0, 1) := by decide +kernel
theorem dX11_partBit_167 : decode cX11_partBit 167 = .ok (.istore_n 3, 1) := by decide +kernel
theorem dX11_partBit_168 : decode cX11_partBit 168 = .ok (.iconst 1, 1) := by decide +kernel
theorem dX11_partBit_169 : decode cX11_partBit 169 = .ok (.istore 4, 2) := by decide +kernel
theorem dX11_partBit_171 : decode cX11_partBit 171 = .ok (.iload 4, 2) := by decide +kernel
theorem dX11_partBit_173 : decode cX11_partBit 173 = .ok (.iload_n 2, 1) := by decide +kernel
theorem dX11_partBit_174 : decode cX11_partBit 174 = .ok (.if_icmp .ge 34, 3) := by decide +kernel
theorem dX11_partBit_177 : decode cX11_partBit 177 = .ok (.iload_n 3, 1) := by decide +kernel
theorem dX11_partBit_178 : decode cX11_partBit 178 = .ok (.ifCond .ne 18, 3) := by decide +kernel
theorem dX11_partBit_181 : decode cX11_partBit 181 = .ok (.aload_n 0, 1) := by decide +kernel
theorem dX11_partBit_182 : decode cX11_partBit 182 = .ok (.getfield 181, 3) := by decide +kernel
theorem dX11_partBit_185 : decode cX11_partBit 185 = .ok (.aload_n 0, 1) := by decide +kernel
theorem dX11_partBit_186 : decode cX11_partBit 186 = .ok (.iload_n 1, 1) := by decide +kernel
theorem dX11_partBit_187 : decode cX11_partBit 187 = .ok (.iload 4, 2) := by decide +kernel
theorem dX11_partBit_189 : decode cX11_partBit 189 = .ok (.invokevirtual 545, 3) := by decide +kernel
theorem dX11_partBit_192 : decode cX11_partBit 192 = .ok (.baload, 1) := by decide +kernel
theorem dX11_partBit_193 : decode cX11_partBit 193 = .ok (.ifCond .eq 7, 3) := by decide +kernel
theorem dX11_partBit_196 : decode cX11_partBit 196 = .ok (.iconst 1, 1) := by decide +kernel
theorem dX11_partBit_197 : decode cX11_partBit 197 = .ok (.goto 4, 3) := by decide +kernel
theorem dX11_partBit_200 : decode cX11_partBit 200 = .ok (.iconst 0, 1) := by decide +kernel
theorem dX11_partBit_201 : decode cX11_partBit 201 = .ok (.istore_n 3, 1) := by decide +kernel
theorem dX11_partBit_202 : decode cX11_partBit 202 = .ok (.iinc 4 1, 3) := by decide +kernel
theorem dX11_partBit_205 : decode cX11_partBit 205 = .ok (.goto (-34), 3) := by decide +kernel
theorem dX11_partBit_208 : decode cX11_partBit 208 = .ok (.aload_n 0, 1) := by decide +kernel
theorem dX11_partBit_209 : decode cX11_partBit 209 = .ok (.getfield 181, 3) := by decide +kernel
theorem dX11_partBit_212 : decode cX11_partBit 212 = .ok (.aload_n 0, 1) := by decide +kernel
theorem dX11_partBit_213 : decode cX11_partBit 213 = .ok (.iload_n 1, 1) := by decide +kernel
theorem dX11_partBit_214 : decode cX11_partBit 214 = .ok (.iconst 0, 1) := by decide +kernel
theorem dX11_partBit_215 : decode cX11_partBit 215 = .ok (.invokevirtual 545, 3) := by decide +kernel
theorem dX11_partBit_218 : decode cX11_partBit 218 = .ok (.baload, 1) := by decide +kernel
theorem dX11_partBit_219 : decode cX11_partBit 219 = .ok (.ifCond .eq 11, 3) := by decide +kernel
theorem dX11_partBit_222 : decode cX11_partBit 222 = .ok (.iload_n 3, 1) := by decide +kernel
theorem dX11_partBit_223 : decode cX11_partBit 223 = .ok (.ifCond .eq 7, 3) := by decide +kernel
theorem dX11_partBit_226 : decode cX11_partBit 226 = .ok (.iconst 1, 1) := by decide +kernel
theorem dX11_partBit_227 : decode cX11_partBit 227 = .ok (.goto 4, 3) := by decide +kernel
theorem dX11_partBit_230 : decode cX11_partBit 230 = .ok (.iconst 0, 1) := by decide +kernel
theorem dX11_partBit_231 : decode cX11_partBit 231 = .ok (.ireturn, 1) := by decide +kernel
theorem dX11_partBit_232 : decode cX11_partBit 232 = .ok (.aload_n 0, 1) := by decide +kernel
theorem dX11_partBit_233 : decode cX11_partBit 233 = .ok (.getfield 181, 3) := by decide +kernel
theorem dX11_partBit_236 : decode cX11_partBit 236 = .ok (.aload_n 0, 1) := by decide +kernel
theorem dX11_partBit_237 : decode cX11_partBit 237 = .ok (.iload_n 1, 1) := by decide +kernel
theorem dX11_partBit_238 : decode cX11_partBit 238 = .ok (.iload_n 2, 1) := by decide +kernel
theorem dX11_partBit_239 : decode cX11_partBit 239 = .ok (.iconst 1, 1) := by decide +kernel
theorem dX11_partBit_240 : decode cX11_partBit 240 = .ok (.isub, 1) := by decide +kernel
theorem dX11_partBit_241 : decode cX11_partBit 241 = .ok (.invokevirtual 545, 3) := by decide +kernel
theorem dX11_partBit_244 : decode cX11_partBit 244 = .ok (.baload, 1) := by decide +kernel
theorem dX11_partBit_245 : decode cX11_partBit 245 = .ok (.ireturn, 1) := by decide +kernel
theorem dX11_partBit_246 : decode cX11_partBit 246 = .ok (.aload_n 0, 1) := by decide +kernel
theorem dX11_partBit_247 : decode cX11_partBit 247 = .ok (.iload_n 1, 1) := by decide +kernel
theorem dX11_partBit_248 : decode cX11_partBit 248 = .ok (.invokevirtual 558, 3) := by decide +kernel
theorem dX11_partBit_251 : decode cX11_partBit 251 = .ok (.ireturn, 1) := by decide +kernel
theorem dX11_partBit_252 : decode cX11_partBit 252 = .ok (.iconst 1, 1) := by decide +kernel
theorem dX11_partBit_253 : decode cX11_partBit 253 = .ok (.ireturn, 1) := by decide +kernel
theorem mw_X11_partBit : MW yX11_partBit (Cond.code yX11_partBit cX11_partBit 5 (Option.some Jvm.ClassFile.FieldType.boolean)) cX11_partBit 5 (Option.some Jvm.ClassFile.FieldType.boolean) 1 := ⟨rfl, ⟨(lw_all_tbl q3208), rfl, (lw_all_tbl q173)⟩, rfl, ⟨by decide, by decide⟩, by decide +kernel⟩
abbrev okt_partBit_171 (x : Int × Int × Int × Int) : Prop := R32 x.1 ∧ R32 x.2.1 ∧ rg .boolean x.2.2.1 ∧ R32 x.2.2.2
abbrev lvt_partBit_171 (Γ : Gm) (x : Int × Int × Int × Int) : List (Nat × Value) := [(0, vA (mg Γ) 21), (1, vI x.1), (2, vI x.2.1), (3, vI x.2.2.1), (4, vI x.2.2.2)]
noncomputable def t_partBit_201 {A : Type} (k_208 : Int → Int → Mo TS A) (l1 : Int) (l2 : Int) (l4 : Int) (k0 : Int) : Mo TS ((Int × Int × Int × Int) ⊕ A) :=
  pr (.inl (l1, l2, k0, (w32 (l4 + 1))))
theorem st_partBit_201 {Γ : Gm} {h : CH} {d : Nat} (hT : HT h) (o : Ok Γ "LazyForgeModel" cX11_partBit 5 (Option.some Jvm.ClassFile.FieldType.boolean) (d + 2)) {A : Type} {K : A → TS → Prop}  (k_208 : Int → Int → Mo TS A) (hk_208 : ∀ (l1 : Int) (l3 : Int), R32 l1 → rg .boolean l3 → Sx Γ (fun t => (h, t)) K 208 [(0, vA (mg Γ) 21), (1, vI l1), (3, vI l3)] [] (k_208 l1 l3)) (l1 : Int) (l2 : Int) (l4 : Int) (k0 : Int) (hl1 : R32 l1) (hl2 : R32 l2) (hl4 : R32 l4) (hk0 : rg .boolean k0) : Sx Γ (fun t => (h, t)) (KL Γ (fun t => (h, t)) okt_partBit_171 K 171 (lvt_partBit_171 Γ) []) 201 [(0, vA (mg Γ) 21), (1, vI l1), (2, vI l2), (4, vI l4)] [vI k0] (t_partBit_201 k_208 l1 l2 l4 k0) := by
  unfold t_partBit_201
  refine r_istore_n o dX11_partBit_201 rfl rfl ⟨(Nat.ne_of_beq_eq_false rfl), (fun _ => (vA_cat (mg Γ) 21)), ⟨(Nat.ne_of_beq_eq_false rfl), (fun _ => rfl), ⟨(Nat.ne_of_beq_eq_false rfl), (fun _ => rfl), ⟨(Nat.ne_of_beq_eq_false rfl), (fun _ => rfl), trivial⟩⟩⟩⟩ ?_
  refine r_iinc (j := 4) o dX11_partBit_202 rfl rfl [(3, vI k0), (0, vA (mg Γ) 21), (1, vI l1), (2, vI l2)] [0, 1, 2, 3] rfl ⟨(Nat.ne_of_beq_eq_false rfl), (fun _ => rfl), ⟨(Nat.ne_of_beq_eq_false rfl), (fun _ => (vA_cat (mg Γ) 21)), ⟨(Nat.ne_of_beq_eq_false rfl), (fun _ => rfl), ⟨(Nat.ne_of_beq_eq_false rfl), (fun _ => rfl), trivial⟩⟩⟩⟩ ?_
  refine s_goto (tgt := 171) o dX11_partBit_205 (by decide) ?_
  refine r_to [(0, vA (mg Γ) 21), (1, vI l1), (2, vI l2), (3, vI k0), (4, vI (w32 (l4 + 1)))] [2, 3, 4, 1, 0] rfl ?_
  exact s_back (⟨hl1, hl2, hk0, (w32_R _)⟩) rfl
noncomputable def t_partBit_196 {A : Type} (k_208 : Int → Int → Mo TS A) (l1 : Int) (l2 : Int) (l4 : Int) : Mo TS ((Int × Int × Int × Int) ⊕ A) :=
  t_partBit_201 k_208 l1 l2 l4 1
theorem st_partBit_196 {Γ : Gm} {h : CH} {d : Nat} (hT : HT h) (o : Ok Γ "LazyForgeModel" cX11_partBit 5 (Option.some Jvm.ClassFile.FieldType.boolean) (d + 2)) {A : Type} {K : A → TS → Prop}  (k_208 : Int → Int → Mo TS A) (hk_208 : ∀ (l1 : Int) (l3 : Int), R32 l1 → rg .boolean l3 → Sx Γ (fun t => (h, t)) K 208 [(0, vA (mg Γ) 21), (1, vI l1), (3, vI l3)] [] (k_208 l1 l3)) (l1 : Int) (l2 : Int) (l4 : Int) (hl1 : R32 l1) (hl2 : R32 l2) (hl4 : R32 l4) : Sx Γ (fun t => (h, t)) (KL Γ (fun t => (h, t)) okt_partBit_171 K 171 (lvt_partBit_171 Γ) []) 196 [(0, vA (mg Γ) 21), (1, vI l1), (2, vI l2), (4, vI l4)] [] (t_partBit_196 k_208 l1 l2 l4) := by
  unfold t_partBit_196
  refine s_iconst o dX11_partBit_196 ?_
  refine s_goto (tgt := 201) o dX11_partBit_197 (by decide) ?_
  exact st_partBit_201 hT o k_208 hk_208 l1 l2 l4 1 hl1 hl2 hl4 (Or.inr rfl)
noncomputable def t_partBit_171b {A : Type} (k_208 : Int → Int → Mo TS A) (l1 : Int) (l2 : Int) (l3 : Int) (l4 : Int) : Mo TS ((Int × Int × Int × Int) ⊕ A) :=
  if l2 ≤ l4 then
    lo (k_208 l1 l3)
  else
    if ¬ l3 = 0 then
      t_partBit_196 k_208 l1 l2 l4
    else
      bnd (t_child l1 l4) fun v1 =>
      bnd (rd 86 7000 v1) fun v2 =>
      if v2 = 0 then
        t_partBit_201 k_208 l1 l2 l4 0
      else
        t_partBit_196 k_208 l1 l2 l4
theorem st_partBit_171b {Γ : Gm} {h : CH} {d : Nat} (hT : HT h) (o : Ok Γ "LazyForgeModel" cX11_partBit 5 (Option.some Jvm.ClassFile.FieldType.boolean) (d + 2)) {A : Type} {K : A → TS → Prop} (k_208 : Int → Int → Mo TS A) (hk_208 : ∀ (l1 : Int) (l3 : Int), R32 l1 → rg .boolean l3 → Sx Γ (fun t => (h, t)) K 208 [(0, vA (mg Γ) 21), (1, vI l1), (3, vI l3)] [] (k_208 l1 l3)) (l1 : Int) (l2 : Int) (l3 : Int) (l4 : Int) (hl1 : R32 l1) (hl2 : R32 l2) (hl3 : rg .boolean l3) (hl4 : R32 l4) : Sx Γ (fun t => (h, t)) (KL Γ (fun t => (h, t)) okt_partBit_171 K 171 (lvt_partBit_171 Γ) []) 171 [(0, vA (mg Γ) 21), (1, vI l1), (2, vI l2), (3, vI l3), (4, vI l4)] [] (t_partBit_171b k_208 l1 l2 l3 l4) := by
  unfold t_partBit_171b
  refine s_iload o dX11_partBit_171 4 rfl ?_
  refine s_iload_n o dX11_partBit_173 rfl 2 rfl ?_
  refine s_icmp_ge (tgt := 208) o dX11_partBit_174 (by decide) hl4 hl2 ?_ ?_
  · refine r_to [(0, vA (mg Γ) 21), (1, vI l1), (3, vI l3)] [0, 1, 3] rfl ?_
    exact s_lo (hk_208 l1 l3 hl1 hl3)
  · refine s_iload_n o dX11_partBit_177 rfl 3 rfl ?_
    refine s_if_ne (tgt := 196) o dX11_partBit_178 (by decide) (rZ hl3) ?_ ?_
    · refine r_to [(0, vA (mg Γ) 21), (1, vI l1), (2, vI l2), (4, vI l4)] [0, 1, 2, 4] rfl ?_
      exact st_partBit_196 hT o k_208 hk_208 l1 l2 l4 hl1 hl2 hl4
    · refine s_aload_n o dX11_partBit_181 rfl 0 rfl ?_
      refine s_tga (x := 78) o hT tf_bitOf ta_bitOf (lw_all_tbl q2590) dX11_partBit_182 ?_
      refine s_aload_n o dX11_partBit_185 rfl 0 rfl ?_
      refine s_iload_n o dX11_partBit_186 rfl 1 rfl ?_
      refine s_iload o dX11_partBit_187 4 rfl ?_
      refine s_cv (d := d + 1) (C := "LazyForgeModel") (As := [vI l1, vI l4]) (st := [vA (mg Γ) 78]) o (st_child (mg Γ) (d + 1) h hT l1 l4 hl1 hl4) mw_X11_child rfl (Or.inl (lw_all_tbl q3189)) (lw_all_tbl qs115) (lw_all_tbl q3191) (fun t => rc_t o hT t) (wt_A wt_0) rfl dX11_partBit_189 rfl (rs := fun r => [vI r, vA (mg Γ) 78]) (fun _ => rfl) (fun v1 hv1 => ?_)
      refine r_tzald o hT tr_bitOf (hv1 _ rfl) dX11_partBit_192 (fun v2 hv2 => ?_)
      refine s_if_eq (tgt := 200) o dX11_partBit_193 (by decide) (rZ hv2) ?_ ?_
      · refine s_iconst o dX11_partBit_200 ?_
        refine r_to [(0, vA (mg Γ) 21), (1, vI l1), (2, vI l2), (4, vI l4)] [0, 1, 2, 4] rfl ?_
        exact st_partBit_201 hT o k_208 hk_208 l1 l2 l4 0 hl1 hl2 hl4 (Or.inl rfl)
      · refine r_to [(0, vA (mg Γ) 21), (1, vI l1), (2, vI l2), (4, vI l4)] [0, 1, 2, 4] rfl ?_
        exact st_partBit_196 hT o k_208 hk_208 l1 l2 l4 hl1 hl2 hl4
noncomputable def t_partBit_171 {A : Type} (k_208 : Int → Int → Mo TS A) (l1 : Int) (l2 : Int) (l3 : Int) (l4 : Int) : Mo TS A := Loop (fun x => t_partBit_171b k_208 x.1 x.2.1 x.2.2.1 x.2.2.2) (l1, l2, l3, l4)
theorem st_partBit_171 {Γ : Gm} {h : CH} {d : Nat} (hT : HT h) (o : Ok Γ "LazyForgeModel" cX11_partBit 5 (Option.some Jvm.ClassFile.FieldType.boolean) (d + 2)) {A : Type} {K : A → TS → Prop} (k_208 : Int → Int → Mo TS A) (hk_208 : ∀ (l1 : Int) (l3 : Int), R32 l1 → rg .boolean l3 → Sx Γ (fun t => (h, t)) K 208 [(0, vA (mg Γ) 21), (1, vI l1), (3, vI l3)] [] (k_208 l1 l3)) (l1 : Int) (l2 : Int) (l3 : Int) (l4 : Int) (hl1 : R32 l1) (hl2 : R32 l2) (hl3 : rg .boolean l3) (hl4 : R32 l4) : Sx Γ (fun t => (h, t)) K 171 [(0, vA (mg Γ) 21), (1, vI l1), (2, vI l2), (3, vI l3), (4, vI l4)] [] (t_partBit_171 k_208 l1 l2 l3 l4) :=
  s_loop okt_partBit_171 (lvt_partBit_171 Γ) (fun x hx => st_partBit_171b hT o k_208 hk_208 x.1 x.2.1 x.2.2.1 x.2.2.2 hx.1 hx.2.1 hx.2.2.1 hx.2.2.2) (x := (l1, l2, l3, l4)) ⟨hl1, hl2, hl3, hl4⟩
noncomputable def t_partBit_124  : Mo TS Int :=
  pr 1
theorem st_partBit_124 {Γ : Gm} {h : CH} {d : Nat} (hT : HT h) (o : Ok Γ "LazyForgeModel" cX11_partBit 5 (Option.some Jvm.ClassFile.FieldType.boolean) (d + 2))   : Sx Γ (fun t => (h, t)) (fun a s => mt Γ = (0, a, ((h, s) : Wd))) 124 [] [] (t_partBit_124) := by
  unfold t_partBit_124
  refine s_iconst o dX11_partBit_124 ?_
  refine s_goto (tgt := 129) o dX11_partBit_125 (by decide) ?_
  exact s_iret o rfl i_boolean (Or.inr rfl) dX11_partBit_129 (fun _ hh => hh)
noncomputable def t_partBit (l1 : Int) : Mo TS Int :=
  bnd (rd 67 7000 l1) fun v1 =>
  bnd (rd 64 7000 l1) fun v2 =>
  if v2 = 0 then
    bnd (t_child l1 (w32 (v1 - 1))) fun v4 =>
    bnd (rd 86 7000 v4) fun v5 =>
    pr v5
  else
    if v2 = 3 then
      t_partBit_171
        (fun v7 v8 => bnd (t_child v7 0) fun v9 =>
      bnd (rd 86 7000 v9) fun v10 =>
      if v10 = 0 then
        pr 0
      else
        if v8 = 0 then
          pr 0
        else
          pr 1) l1 v1 0 1
    else
      if v2 = 5 then
        bnd (t_child l1 0) fun v12 =>
        bnd (rd 86 7000 v12) fun v13 =>
        if v13 = 0 then
          pr 0
        else
          bnd (t_child l1 1) fun v14 =>
          bnd (rd 86 7000 v14) fun v15 =>
          if v15 = 0 then
            pr 0
          else
            pr 1
      else
        if v2 = 6 then
          bnd (t_appliedBit l1) fun v17 =>
          pr v17
        else
          if v2 = 11 then
            pr 0
          else
            if v2 = 12 then
              bnd (rd 65 7000 l1) fun v20 =>
              bnd (rd 82 640 v20) fun v21 =>
              if 0 < v21 then
                t_partBit_124
              else
                bnd (rd 65 7000 l1) fun v22 =>
                bnd (t_table v22 0) fun v23 =>
                if v23 = 0 then
                  pr 0
                else
                  t_partBit_124
            else
              if v2 = 13 then
                bnd (rd 65 7000 l1) fun v25 =>
                bnd (rd 87 640 v25) fun v26 =>
                pr v26
              else
                pr 1
theorem st_partBit (g : gC) (d : Nat) (h : CH) (hT : HT h) (l1 : Int) (hl1 : R32 l1) : SF g yX11_partBit (Cond.code yX11_partBit cX11_partBit 5 (Option.some Jvm.ClassFile.FieldType.boolean)) (Option.some Jvm.ClassFile.FieldType.boolean) (d + 2) [vA g 21, vI l1] (fun t => (h, t)) (t_partBit l1) := by
  refine SF.of (lv := [(0, vA g 21), (1, vI l1)]) (by decide) (wt_A (wt_I wt_0)) rfl (by simp only [la_A, la_I, la_J, la_0]) (fun Γ hg hnm o => ?_)
  subst hg
  have o : Ok Γ "LazyForgeModel" cX11_partBit 5 (Option.some Jvm.ClassFile.FieldType.boolean) (d + 2) := o
  unfold t_partBit
  refine s_aload_n o dX11_partBit_0 rfl 0 rfl ?_
  refine s_tga (x := 61) o hT tf_liftCounts ta_liftCounts (lw_all_tbl q2571) dX11_partBit_1 ?_
  refine s_iload_n o dX11_partBit_4 rfl 1 rfl ?_
  refine r_tiald o hT tr_liftCounts hl1 dX11_partBit_5 (fun v1 hv1 => ?_)
  refine r_istore_n o dX11_partBit_6 rfl rfl ⟨(Nat.ne_of_beq_eq_false rfl), (fun _ => (vA_cat (mg Γ) 21)), ⟨(Nat.ne_of_beq_eq_false rfl), (fun _ => rfl), trivial⟩⟩ ?_
  refine s_aload_n o dX11_partBit_7 rfl 1 rfl ?_
  refine s_tga (x := 58) o hT tf_liftKinds ta_liftKinds (lw_all_tbl q2568) dX11_partBit_8 ?_
  refine s_iload_n o dX11_partBit_11 rfl 2 rfl ?_
  refine r_tiald o hT tr_liftKinds hl1 dX11_partBit_12 (fun v2 hv2 => ?_)
  refine s_case (P := True) (fun e2 => ?_) (fun e2 => ?_)
  · refine s_tabE o e2 dX11_partBit_13 (r32 rfl) rfl rfl (tgt := 232) (by decide) ?_
    refine s_aload_n o dX11_partBit_232 rfl 1 rfl ?_
    refine s_tga (x := 78) o hT tf_bitOf ta_bitOf (lw_all_tbl q2590) dX11_partBit_233 ?_
    refine s_aload_n o dX11_partBit_236 rfl 1 rfl ?_
    refine s_iload_n o dX11_partBit_237 rfl 2 rfl ?_
    refine s_iload_n o dX11_partBit_238 rfl 0 rfl ?_
    refine s_iconst o dX11_partBit_239 ?_
    refine s_isub o dX11_partBit_240 ?_
    refine s_cv (d := d + 1) (C := "LazyForgeModel") (As := [vI l1, vI (w32 (v1 - 1))]) (st := [vA (mg Γ) 78]) o (st_child (mg Γ) (d + 1) h hT l1 (w32 (v1 - 1)) hl1 (w32_R _)) mw_X11_child rfl (Or.inl (lw_all_tbl q3189)) (lw_all_tbl qs115) (lw_all_tbl q3191) (fun t => rc_t o hT t) (wt_A wt_0) rfl dX11_partBit_241 rfl (rs := fun r => [vI r, vA (mg Γ) 78]) (fun _ => rfl) (fun v4 hv4 => ?_)
    refine r_tzald o hT tr_bitOf (hv4 _ rfl) dX11_partBit_244 (fun v5 hv5 => ?_)
    exact s_iret o rfl i_boolean hv5 dX11_partBit_245 (fun _ hh => hh)
  · refine s_case (P := True) (fun e5 => ?_) (fun e5 => ?_)
    · refine s_tabE o e5 dX11_partBit_13 (r32 rfl) rfl rfl (tgt := 166) (by decide) ?_
      refine s_iconst o dX11_partBit_166 ?_
      refine r_istore_n o dX11_partBit_167 rfl rfl ⟨(Nat.ne_of_beq_eq_false rfl), (fun _ => rfl), ⟨(Nat.ne_of_beq_eq_false rfl), (fun _ => (vA_cat (mg Γ) 21)), ⟨(Nat.ne_of_beq_eq_false rfl), (fun _ => rfl), trivial⟩⟩⟩ ?_
      refine s_iconst o dX11_partBit_168 ?_
      refine r_istore o dX11_partBit_169 rfl ⟨(Nat.ne_of_beq_eq_false rfl), (fun _ => rfl), ⟨(Nat.ne_of_beq_eq_false rfl), (fun _ => rfl), ⟨(Nat.ne_of_beq_eq_false rfl), (fun _ => (vA_cat (mg Γ) 21)), ⟨(Nat.ne_of_beq_eq_false rfl), (fun _ => rfl), trivial⟩⟩⟩⟩ ?_
      refine r_to [(0, vA (mg Γ) 21), (1, vI l1), (2, vI v1), (3, vI 0), (4, vI 1)] [3, 4, 2, 1, 0] rfl ?_
      refine st_partBit_171 hT o _ ?_ l1 v1 0 1 hl1 hv1 (Or.inl rfl) (r32 rfl)
      · intro v7 v8 hv7 hv8
        refine s_aload_n o dX11_partBit_208 rfl 0 rfl ?_
        refine s_tga (x := 78) o hT tf_bitOf ta_bitOf (lw_all_tbl q2590) dX11_partBit_209 ?_
        refine s_aload_n o dX11_partBit_212 rfl 0 rfl ?_
        refine s_iload_n o dX11_partBit_213 rfl 1 rfl ?_
        refine s_iconst o dX11_partBit_214 ?_
        refine s_cv (d := d + 1) (C := "LazyForgeModel") (As := [vI v7, vI 0]) (st := [vA (mg Γ) 78]) o (st_child (mg Γ) (d + 1) h hT v7 0 hv7 (r32 rfl)) mw_X11_child rfl (Or.inl (lw_all_tbl q3189)) (lw_all_tbl qs115) (lw_all_tbl q3191) (fun t => rc_t o hT t) (wt_A wt_0) rfl dX11_partBit_215 rfl (rs := fun r => [vI r, vA (mg Γ) 78]) (fun _ => rfl) (fun v9 hv9 => ?_)
        refine r_tzald o hT tr_bitOf (hv9 _ rfl) dX11_partBit_218 (fun v10 hv10 => ?_)
        refine s_if_eq (tgt := 230) o dX11_partBit_219 (by decide) (rZ hv10) ?_ ?_
        · refine s_iconst o dX11_partBit_230 ?_
          exact s_iret o rfl i_boolean (Or.inl rfl) dX11_partBit_231 (fun _ hh => hh)
        · refine s_iload_n o dX11_partBit_222 rfl 2 rfl ?_
          refine s_if_eq (tgt := 230) o dX11_partBit_223 (by decide) (rZ hv8) ?_ ?_
          · refine s_iconst o dX11_partBit_230 ?_
            exact s_iret o rfl i_boolean (Or.inl rfl) dX11_partBit_231 (fun _ hh => hh)
          · refine s_iconst o dX11_partBit_226 ?_
            refine s_goto (tgt := 231) o dX11_partBit_227 (by decide) ?_
            exact s_iret o rfl i_boolean (Or.inr rfl) dX11_partBit_231 (fun _ hh => hh)
    · refine s_case (P := True) (fun e10 => ?_) (fun e10 => ?_)
      · refine s_tabE o e10 dX11_partBit_13 (r32 rfl) rfl rfl (tgt := 132) (by decide) ?_
        refine s_aload_n o dX11_partBit_132 rfl 1 rfl ?_
        refine s_tga (x := 78) o hT tf_bitOf ta_bitOf (lw_all_tbl q2590) dX11_partBit_133 ?_
        refine s_aload_n o dX11_partBit_136 rfl 1 rfl ?_
        refine s_iload_n o dX11_partBit_137 rfl 2 rfl ?_
        refine s_iconst o dX11_partBit_138 ?_
        refine s_cv (d := d + 1) (C := "LazyForgeModel") (As := [vI l1, vI 0]) (st := [vA (mg Γ) 78]) o (st_child (mg Γ) (d + 1) h hT l1 0 hl1 (r32 rfl)) mw_X11_child rfl (Or.inl (lw_all_tbl q3189)) (lw_all_tbl qs115) (lw_all_tbl q3191) (fun t => rc_t o hT t) (wt_A wt_0) rfl dX11_partBit_139 rfl (rs := fun r => [vI r, vA (mg Γ) 78]) (fun _ => rfl) (fun v12 hv12 => ?_)
        refine r_tzald o hT tr_bitOf (hv12 _ rfl) dX11_partBit_142 (fun v13 hv13 => ?_)
        refine s_if_eq (tgt := 164) o dX11_partBit_143 (by decide) (rZ hv13) ?_ ?_
        · refine s_iconst o dX11_partBit_164 ?_
          exact s_iret o rfl i_boolean (Or.inl rfl) dX11_partBit_165 (fun _ hh => hh)
        · refine s_aload_n o dX11_partBit_146 rfl 1 rfl ?_
          refine s_tga (x := 78) o hT tf_bitOf ta_bitOf (lw_all_tbl q2590) dX11_partBit_147 ?_
          refine s_aload_n o dX11_partBit_150 rfl 1 rfl ?_
          refine s_iload_n o dX11_partBit_151 rfl 2 rfl ?_
          refine s_iconst o dX11_partBit_152 ?_
          refine s_cv (d := d + 1) (C := "LazyForgeModel") (As := [vI l1, vI 1]) (st := [vA (mg Γ) 78]) o (st_child (mg Γ) (d + 1) h hT l1 1 hl1 (r32 rfl)) mw_X11_child rfl (Or.inl (lw_all_tbl q3189)) (lw_all_tbl qs115) (lw_all_tbl q3191) (fun t => rc_t o hT t) (wt_A wt_0) rfl dX11_partBit_153 rfl (rs := fun r => [vI r, vA (mg Γ) 78]) (fun _ => rfl) (fun v14 hv14 => ?_)
          refine r_tzald o hT tr_bitOf (hv14 _ rfl) dX11_partBit_156 (fun v15 hv15 => ?_)
          refine s_if_eq (tgt := 164) o dX11_partBit_157 (by decide) (rZ hv15) ?_ ?_
          · refine s_iconst o dX11_partBit_164 ?_
            exact s_iret o rfl i_boolean (Or.inl rfl) dX11_partBit_165 (fun _ hh => hh)
          · refine s_iconst o dX11_partBit_160 ?_
            refine s_goto (tgt := 165) o dX11_partBit_161 (by decide) ?_
            exact s_iret o rfl i_boolean (Or.inr rfl) dX11_partBit_165 (fun _ hh => hh)
      · refine s_case (P := True) (fun e15 => ?_) (fun e15 => ?_)
        · refine s_tabE o e15 dX11_partBit_13 (r32 rfl) rfl rfl (tgt := 246) (by decide) ?_
          refine s_aload_n o dX11_partBit_246 rfl 1 rfl ?_
          refine s_iload_n o dX11_partBit_247 rfl 2 rfl ?_
          refine s_cv (d := d + 1) (C := "LazyForgeModel") (As := [vI l1]) (st := []) o (st_appliedBit (mg Γ) d h hT l1 hl1) mw_X11_appliedBit rfl (Or.inl (lw_all_tbl q3213)) (lw_all_tbl qs121) (lw_all_tbl q3215) (fun t => rc_t o hT t) wt_0 rfl dX11_partBit_248 rfl (rs := fun r => [vI r]) (fun _ => rfl) (fun v17 hv17 => ?_)
          exact s_iret o rfl i_boolean (hv17 _ rfl) dX11_partBit_251 (fun _ hh => hh)
        · refine s_case (P := True) (fun e17 => ?_) (fun e17 => ?_)
          · refine s_tabE o e17 dX11_partBit_13 (r32 rfl) rfl rfl (tgt := 130) (by decide) ?_
            refine s_iconst o dX11_partBit_130 ?_
            exact s_iret o rfl i_boolean (Or.inl rfl) dX11_partBit_131 (fun _ hh => hh)
          · refine s_case (P := True) (fun e18 => ?_) (fun e18 => ?_)
            · refine s_tabE o e18 dX11_partBit_13 (r32 rfl) rfl rfl (tgt := 96) (by decide) ?_
              refine s_aload_n o dX11_partBit_96 rfl 1 rfl ?_
              refine s_tga (x := 75) o hT tf_parameterCounts ta_parameterCounts (lw_all_tbl q2586) dX11_partBit_97 ?_
              refine s_aload_n o dX11_partBit_100 rfl 1 rfl ?_
              refine s_tga (x := 59) o hT tf_liftValues ta_liftValues (lw_all_tbl q2569) dX11_partBit_101 ?_
              refine s_iload_n o dX11_partBit_104 rfl 2 rfl ?_
              refine r_tiald o hT tr_liftValues hl1 dX11_partBit_105 (fun v20 hv20 => ?_)
              refine r_tiald o hT tr_parameterCounts hv20 dX11_partBit_106 (fun v21 hv21 => ?_)
              refine s_if_gt (tgt := 124) o dX11_partBit_107 (by decide) hv21 ?_ ?_
              · refine r_to [] [] rfl ?_
                exact st_partBit_124 hT o
              · refine s_aload_n o dX11_partBit_110 rfl 1 rfl ?_
                refine s_aload_n o dX11_partBit_111 rfl 1 rfl ?_
                refine s_tga (x := 59) o hT tf_liftValues ta_liftValues (lw_all_tbl q2569) dX11_partBit_112 ?_
                refine s_iload_n o dX11_partBit_115 rfl 2 rfl ?_
                refine r_tiald o hT tr_liftValues hl1 dX11_partBit_116 (fun v22 hv22 => ?_)
                refine s_iconst o dX11_partBit_117 ?_
                refine s_cv (d := d + 1) (C := "LazyForgeModel") (As := [vI v22, vI 0]) (st := []) o (st_table (mg Γ) (d + 1) h hT v22 0 hv22 (r32 rfl)) mw_X11_table rfl (Or.inl (lw_all_tbl q3209)) (lw_all_tbl qs120) (lw_all_tbl q3211) (fun t => rc_t o hT t) wt_0 rfl dX11_partBit_118 rfl (rs := fun r => [vI r]) (fun _ => rfl) (fun v23 hv23 => ?_)
                refine s_if_eq (tgt := 128) o dX11_partBit_121 (by decide) (rZ (hv23 _ rfl)) ?_ ?_
                · refine s_iconst o dX11_partBit_128 ?_
                  exact s_iret o rfl i_boolean (Or.inl rfl) dX11_partBit_129 (fun _ hh => hh)
                · refine r_to [] [] rfl ?_
                  exact st_partBit_124 hT o
            · refine s_case (P := True) (fun e23 => ?_) (fun e23 => ?_)
              · refine s_tabE o e23 dX11_partBit_13 (r32 rfl) rfl rfl (tgt := 84) (by decide) ?_
                refine s_aload_n o dX11_partBit_84 rfl 1 rfl ?_
                refine s_tga (x := 79) o hT tf_has ta_has (lw_all_tbl q2591) dX11_partBit_85 ?_
                refine s_aload_n o dX11_partBit_88 rfl 1 rfl ?_
                refine s_tga (x := 59) o hT tf_liftValues ta_liftValues (lw_all_tbl q2569) dX11_partBit_89 ?_
                refine s_iload_n o dX11_partBit_92 rfl 2 rfl ?_
                refine r_tiald o hT tr_liftValues hl1 dX11_partBit_93 (fun v25 hv25 => ?_)
                refine r_tzald o hT tr_has hv25 dX11_partBit_94 (fun v26 hv26 => ?_)
                exact s_iret o rfl i_boolean hv26 dX11_partBit_95 (fun _ hh => hh)
              · refine s_split (x := v2) (v := 1) (fun e26 => ?_) (fun e26 => ?_)
                · refine s_tabE o e26 dX11_partBit_13 (r32 rfl) rfl rfl (tgt := 252) (by decide) ?_
                  refine s_iconst o dX11_partBit_252 ?_
                  exact s_iret o rfl i_boolean (Or.inr rfl) dX11_partBit_253 (fun _ hh => hh)
                · refine s_split (x := v2) (v := 2) (fun e27 => ?_) (fun e27 => ?_)
                  · refine s_tabE o e27 dX11_partBit_13 (r32 rfl) rfl rfl (tgt := 252) (by decide) ?_
                    refine s_iconst o dX11_partBit_252 ?_
                    exact s_iret o rfl i_boolean (Or.inr rfl) dX11_partBit_253 (fun _ hh => hh)
                  · refine s_split (x := v2) (v := 4) (fun e28 => ?_) (fun e28 => ?_)
                    · refine s_tabE o e28 dX11_partBit_13 (r32 rfl) rfl rfl (tgt := 252) (by decide) ?_
                      refine s_iconst o dX11_partBit_252 ?_
                      exact s_iret o rfl i_boolean (Or.inr rfl) dX11_partBit_253 (fun _ hh => hh)
                    · refine s_split (x := v2) (v := 7) (fun e29 => ?_) (fun e29 => ?_)
                      · refine s_tabE o e29 dX11_partBit_13 (r32 rfl) rfl rfl (tgt := 252) (by decide) ?_
                        refine s_iconst o dX11_partBit_252 ?_
                        exact s_iret o rfl i_boolean (Or.inr rfl) dX11_partBit_253 (fun _ hh => hh)
                      · refine s_split (x := v2) (v := 8) (fun e30 => ?_) (fun e30 => ?_)
                        · refine s_tabE o e30 dX11_partBit_13 (r32 rfl) rfl rfl (tgt := 252) (by decide) ?_
                          refine s_iconst o dX11_partBit_252 ?_
                          exact s_iret o rfl i_boolean (Or.inr rfl) dX11_partBit_253 (fun _ hh => hh)
                        · refine s_split (x := v2) (v := 9) (fun e31 => ?_) (fun e31 => ?_)
                          · refine s_tabE o e31 dX11_partBit_13 (r32 rfl) rfl rfl (tgt := 252) (by decide) ?_
                            refine s_iconst o dX11_partBit_252 ?_
                            exact s_iret o rfl i_boolean (Or.inr rfl) dX11_partBit_253 (fun _ hh => hh)
                          · refine s_split (x := v2) (v := 10) (fun e32 => ?_) (fun e32 => ?_)
                            · refine s_tabE o e32 dX11_partBit_13 (r32 rfl) rfl rfl (tgt := 252) (by decide) ?_
                              refine s_iconst o dX11_partBit_252 ?_
                              exact s_iret o rfl i_boolean (Or.inr rfl) dX11_partBit_253 (fun _ hh => hh)
                            · refine s_tabOut o dX11_partBit_13 hv2 (by omega) (tgt := 252) (by decide) ?_
                              refine s_iconst o dX11_partBit_252 ?_
                              exact s_iret o rfl i_boolean (Or.inr rfl) dX11_partBit_253 (fun _ hh => hh)
theorem dX11_enter_0 : decode cX11_enter 0 = .ok (.lload_n 1, 1) := by decide +kernel
theorem dX11_enter_1 : decode cX11_enter 1 = .ok (.invokestatic 688, 3) := by decide +kernel
theorem dX11_enter_4 : decode cX11_enter 4 = .ok (.iconst 3, 1) := by decide +kernel
theorem dX11_enter_5 : decode cX11_enter 5 = .ok (.if_icmp .eq 9, 3) := by decide +kernel
theorem dX11_enter_8 : decode cX11_enter 8 = .ok (.aload_n 0, 1) := by decide +kernel
theorem dX11_enter_9 : decode cX11_enter 9 = .ok (.lload_n 1, 1) := by decide +kernel
theorem dX11_enter_10 : decode cX11_enter 10 = .ok (.invokevirtual 691, 3) := by decide +kernel
theorem dX11_enter_13 : decode cX11_enter 13 = .ok (.return_, 1) := by decide +kernel
theorem dX11_enter_14 : decode cX11_enter 14 = .ok (.lload_n 1, 1) := by decide +kernel
theorem dX11_enter_15 : decode cX11_enter 15 = .ok (.invokestatic 679, 3) := by decide +kernel
theorem dX11_enter_18 : decode cX11_enter 18 = .ok (.istore_n 3, 1) := by decide +kernel
theorem dX11_enter_19 : decode cX11_enter 19 = .ok (.aload_n 0, 1) := by decide +kernel
theorem dX11_enter_20 : decode cX11_enter 20 = .ok (.getfield 194, 3) := by decide +kernel
theorem dX11_enter_23 : decode cX11_enter 23 = .ok (.iload_n 3, 1) := by decide +kernel
theorem dX11_enter_24 : decode cX11_enter 24 = .ok (.iaload, 1) := by decide +kernel
theorem dX11_enter_25 : decode cX11_enter 25 = .ok (.tableswitch 167 2 4 #[49, 40, 27], 27) := by decide +kernel
theorem dX11_enter_52 : decode cX11_enter 52 = .ok (.aload_n 0, 1) := by decide +kernel
theorem dX11_enter_53 : decode cX11_enter 53 = .ok (.aload_n 0, 1) := by decide +kernel
theorem dX11_enter_54 : decode cX11_enter 54 = .ok (.getfield 200, 3) := by decide +kernel
theorem dX11_enter_57 : decode cX11_enter 57 = .ok (.iload_n 3, 1) := by decide +kernel
theorem dX11_enter_58 : decode cX11_enter 58 = .ok (.laload, 1) := by decide +kernel
theorem dX11_enter_59 : decode cX11_enter 59 = .ok (.invokevirtual 691, 3) := by decide +kernel
theorem dX11_enter_62 : decode cX11_enter 62 = .ok (.goto 135, 3) := by decide +kernel
theorem dX11_enter_65 : decode cX11_enter 65 = .ok (.aload_n 0, 1) := by decide +kernel
theorem dX11_enter_66 : decode cX11_enter 66 = .ok (.iconst 2, 1) := by decide +kernel
theorem dX11_enter_67 : decode cX11_enter 67 = .ok (.iconst 3, 1) := by decide +kernel
theorem dX11_enter_68 : decode cX11_enter 68 = .ok (.invokevirtual 629, 3) := by decide +kernel
theorem dX11_enter_71 : decode cX11_enter 71 = .ok (.goto 126, 3) := by decide +kernel
theorem dX11_enter_74 : decode cX11_enter 74 = .ok (.aload_n 0, 1) := by decide +kernel
theorem dX11_enter_75 : decode cX11_enter 75 = .ok (.getfield 197, 3) := by decide +kernel
theorem dX11_enter_78 : decode cX11_enter 78 = .ok (.iload_n 3, 1) := by decide +kernel
theorem dX11_enter_79 : decode cX11_enter 79 = .ok (.iaload, 1) := by decide +kernel
theorem dX11_enter_80 : decode cX11_enter 80 = .ok (.istore 4, 2) := by decide +kernel
theorem dX11_enter_82 : decode cX11_enter 82 = .ok (.aload_n 0, 1) := by decide +kernel
theorem dX11_enter_83 : decode cX11_enter 83 = .ok (.getfield 194, 3) := by decide +kernel
theorem dX11_enter_86 : decode cX11_enter 86 = .ok (.iload_n 3, 1) := by decide +kernel
theorem dX11_enter_87 : decode cX11_enter 87 = .ok (.iconst 3, 1) := by decide +kernel
theorem dX11_enter_88 : decode cX11_enter 88 = .ok (.iastore, 1) := by decide +kernel
theorem dX11_enter_89 : decode cX11_enter 89 = .ok (.aload_n 0, 1) := by decide +kernel
theorem dX11_enter_90 : decode cX11_enter 90 = .ok (.iconst 0, 1) := by decide +kernel
theorem dX11_enter_91 : decode cX11_enter 91 = .ok (.iconst 0, 1) := by decide +kernel
theorem dX11_enter_92 : decode cX11_enter 92 = .ok (.iload_n 3, 1) := by decide +kernel
theorem dX11_enter_93 : decode cX11_enter 93 = .ok (.invokevirtual 685, 3) := by decide +kernel
theorem dX11_enter_96 : decode cX11_enter 96 = .ok (.aload_n 0, 1) := by decide +kernel
theorem dX11_enter_97 : decode cX11_enter 97 = .ok (.aload_n 0, 1) := by decide +kernel
theorem dX11_enter_98 : decode cX11_enter 98 = .ok (.getfield 141, 3) := by decide +kernel
theorem dX11_enter_101 : decode cX11_enter 101 = .ok (.iload 4, 2) := by decide +kernel
theorem dX11_enter_103 : decode cX11_enter 103 = .ok (.iaload, 1) := by decide +kernel
theorem dX11_enter_104 : decode cX11_enter 104 = .ok (.invokevirtual 694, 3) := by decide +kernel
theorem dX11_enter_107 : decode cX11_enter 107 = .ok (.iconst 0, 1) := by decide +kernel
theorem dX11_enter_108 : decode cX11_enter 108 = .ok (.istore 5, 2) := by decide +kernel
theorem dX11_enter_110 : decode cX11_enter 110 = .ok (.iconst 0, 1) := by decide +kernel
theorem dX11_enter_111 : decode cX11_enter 111 = .ok (.istore 6, 2) := by decide +kernel
theorem dX11_enter_113 : decode cX11_enter 113 = .ok (.iload 6, 2) := by decide +kernel
theorem dX11_enter_115 : decode cX11_enter 115 = .ok (.bipush 40, 2) := by decide +kernel
theorem dX11_enter_117 : decode cX11_enter 117 = .ok (.if_icmp .ge 66, 3) := by decide +kernel
theorem dX11_enter_120 : decode cX11_enter 120 = .ok (.iload 5, 2) := by decide +kernel
theorem dX11_enter_122 : decode cX11_enter 122 = .ok (.aload_n 0, 1) := by decide +kernel
theorem dX11_enter_123 : decode cX11_enter 123 = .ok (.getfield 206, 3) := by decide +kernel
theorem dX11_enter_126 : decode cX11_enter 126 = .ok (.iload_n 3, 1) := by decide +kernel
theorem dX11_enter_127 : decode cX11_enter 127 = .ok (.iaload, 1) := by decide +kernel
theorem dX11_enter_128 : decode cX11_enter 128 = .ok (.if_icmp .ge 55, 3) := by decide +kernel
theorem dX11_enter_131 : decode cX11_enter 131 = .ok (.aload_n 0, 1) := by decide +kernel
theorem dX11_enter_132 : decode cX11_enter 132 = .ok (.getfield 144, 3) := by decide +kernel
theorem dX11_enter_135 : decode cX11_enter 135 = .ok (.iload 4, 2) := by decide +kernel
theorem dX11_enter_137 : decode cX11_enter 137 = .ok (.laload, 1) := by decide +kernel
theorem dX11_enter_138 : decode cX11_enter 138 = .ok (.iload 6, 2) := by decide +kernel
theorem dX11_enter_140 : decode cX11_enter 140 = .ok (.lshr, 1) := by decide +kernel
theorem dX11_enter_141 : decode cX11_enter 141 = .ok (.lconst 1, 1) := by decide +kernel
theorem dX11_enter_142 : decode cX11_enter 142 = .ok (.land, 1) := by decide +kernel
theorem dX11_enter_143 : decode cX11_enter 143 = .ok (.lconst 1, 1) := by decide +kernel
theorem dX11_enter_144 : decode cX11_enter 144 = .ok (.lcmp, 1) := by decide +kernel
theorem dX11_enter_145 : decode cX11_enter 145 = .ok (.ifCond .ne 32, 3) := by decide +kernel
theorem dX11_enter_148 : decode cX11_enter 148 = .ok (.aload_n 0, 1) := by decide +kernel
theorem dX11_enter_149 : decode cX11_enter 149 = .ok (.getfield 233, 3) := by decide +kernel
theorem dX11_enter_152 : decode cX11_enter 152 = .ok (.aload_n 0, 1) := by decide +kernel
theorem dX11_enter_153 : decode cX11_enter 153 = .ok (.getfield 614, 3) := by decide +kernel
theorem dX11_enter_156 : decode cX11_enter 156 = .ok (.iload 6, 2) := by decide +kernel
theorem dX11_enter_158 : decode cX11_enter 158 = .ok (.iadd, 1) := by decide +kernel
theorem dX11_enter_159 : decode cX11_enter 159 = .ok (.aload_n 0, 1) := by decide +kernel
theorem dX11_enter_160 : decode cX11_enter 160 = .ok (.getfield 209, 3) := by decide +kernel
theorem dX11_enter_163 : decode cX11_enter 163 = .ok (.aload_n 0, 1) := by decide +kernel
theorem dX11_enter_164 : decode cX11_enter 164 = .ok (.getfield 203, 3) := by decide +kernel
theorem dX11_enter_167 : decode cX11_enter 167 = .ok (.iload_n 3, 1) := by decide +kernel
theorem dX11_enter_168 : decode cX11_enter 168 = .ok (.iaload, 1) := by decide +kernel
theorem dX11_enter_169 : decode cX11_enter 169 = .ok (.iload 5, 2) := by decide +kernel
theorem dX11_enter_171 : decode cX11_enter 171 = .ok (.iadd, 1) := by decide +kernel
theorem dX11_enter_172 : decode cX11_enter 172 = .ok (.laload, 1) := by decide +kernel
theorem dX11_enter_173 : decode cX11_enter 173 = .ok (.lastore, 1) := by decide +kernel
theorem dX11_enter_174 : decode cX11_enter 174 = .ok (.iinc 5 1, 3) := by decide +kernel
theorem dX11_enter_177 : decode cX11_enter 177 = .ok (.iinc 6 1, 3) := by decide +kernel
theorem dX11_enter_180 : decode cX11_enter 180 = .ok (.goto (-67), 3) := by decide +kernel
theorem dX11_enter_183 : decode cX11_enter 183 = .ok (.aload_n 0, 1) := by decide +kernel
theorem dX11_enter_184 : decode cX11_enter 184 = .ok (.iload 4, 2) := by decide +kernel
theorem dX11_enter_186 : decode cX11_enter 186 = .ok (.invokevirtual 697, 3) := by decide +kernel
theorem dX11_enter_189 : decode cX11_enter 189 = .ok (.goto 8, 3) := by decide +kernel
theorem dX11_enter_192 : decode cX11_enter 192 = .ok (.aload_n 0, 1) := by decide +kernel
theorem dX11_enter_193 : decode cX11_enter 193 = .ok (.lload_n 1, 1) := by decide +kernel
theorem dX11_enter_194 : decode cX11_enter 194 = .ok (.invokevirtual 691, 3) := by decide +kernel
theorem dX11_enter_197 : decode cX11_enter 197 = .ok (.return_, 1) := by decide +kernel
theorem mw_X11_enter : MW yX11_enter (Cond.code yX11_enter cX11_enter 7 (Option.none : Option Jvm.ClassFile.FieldType)) cX11_enter 7 (Option.none : Option Jvm.ClassFile.FieldType) 1 := ⟨rfl, ⟨(lw_all_tbl q3253), rfl, (lw_all_tbl q173)⟩, rfl, ⟨by decide, by decide⟩, by decide +kernel⟩
abbrev okt_enter_113 (x : Int × Int × Int × Int) : Prop := R32 x.1 ∧ R32 x.2.1 ∧ R32 x.2.2.1 ∧ R32 x.2.2.2
abbrev lvt_enter_113 (Γ : Gm) (x : Int × Int × Int × Int) : List (Nat × Value) := [(0, vA (mg Γ) 21), (3, vI x.1), (4, vI x.2.1), (5, vI x.2.2.1), (6, vI x.2.2.2)]
noncomputable def t_enter_177 {A : Type} (k_183 : Int → Mo TS A) (l3 : Int) (l4 : Int) (l5 : Int) (l6 : Int) : Mo TS ((Int × Int × Int × Int) ⊕ A) :=
  pr (.inl (l3, l4, l5, (w32 (l6 + 1))))
theorem st_enter_177 {Γ : Gm} {h : CH} {d : Nat} (hT : HT h) (o : Ok Γ "LazyForgeModel" cX11_enter 7 (Option.none : Option Jvm.ClassFile.FieldType) (d + 2)) {A : Type} {K : A → TS → Prop}  (k_183 : Int → Mo TS A) (hk_183 : ∀ (l4 : Int), R32 l4 → Sx Γ (fun t => (h, t)) K 183 [(0, vA (mg Γ) 21), (4, vI l4)] [] (k_183 l4)) (l3 : Int) (l4 : Int) (l5 : Int) (l6 : Int) (hl3 : R32 l3) (hl4 : R32 l4) (hl5 : R32 l5) (hl6 : R32 l6) : Sx Γ (fun t => (h, t)) (KL Γ (fun t => (h, t)) okt_enter_113 K 113 (lvt_enter_113 Γ) []) 177 [(0, vA (mg Γ) 21), (3, vI l3), (4, vI l4), (5, vI l5), (6, vI l6)] [] (t_enter_177 k_183 l3 l4 l5 l6) := by
  unfold t_enter_177
  refine r_iinc (j := 4) o dX11_enter_177 rfl rfl [(0, vA (mg Γ) 21), (3, vI l3), (4, vI l4), (5, vI l5)] [0, 1, 2, 3] rfl ⟨(Nat.ne_of_beq_eq_false rfl), (fun _ => (vA_cat (mg Γ) 21)), ⟨(Nat.ne_of_beq_eq_false rfl), (fun _ => rfl), ⟨(Nat.ne_of_beq_eq_false rfl), (fun _ => rfl), ⟨(Nat.ne_of_beq_eq_false rfl), (fun _ => rfl), trivial⟩⟩⟩⟩ ?_
  refine s_goto (tgt := 113) o dX11_enter_180 (by decide) ?_
  refine r_to [(0, vA (mg Γ) 21), (3, vI l3), (4, vI l4), (5, vI l5), (6, vI (w32 (l6 + 1)))] [1, 2, 3, 4, 0] rfl ?_
  exact s_back (⟨hl3, hl4, hl5, (w32_R _)⟩) rfl
noncomputable def t_enter_113b {A : Type} (k_183 : Int → Mo TS A) (l3 : Int) (l4 : Int) (l5 : Int) (l6 : Int) : Mo TS ((Int × Int × Int × Int) ⊕ A) :=
  if 40 ≤ l6 then
    lo (k_183 l4)
  else
    bnd (rd 96 4100 l3) fun v1 =>
    if v1 ≤ l5 then
      lo (k_183 l4)
    else
      bnd (rd 72 7000 l4) fun v2 =>
      if ¬ (land (lshr v2 l6) 1) = 1 then
        t_enter_177 k_183 l3 l4 l5 l6
      else
        bnd (gs 122) fun v3 =>
        bnd (rd 95 4100 l3) fun v4 =>
        bnd (rd 99 4100 (w32 (v4 + l5))) fun v5 =>
        bnd (wr 124 193000 (w32 (v3 + l6)) v5) fun _ =>
        t_enter_177 k_183 l3 l4 (w32 (l5 + 1)) l6
theorem st_enter_113b {Γ : Gm} {h : CH} {d : Nat} (hT : HT h) (o : Ok Γ "LazyForgeModel" cX11_enter 7 (Option.none : Option Jvm.ClassFile.FieldType) (d + 2)) {A : Type} {K : A → TS → Prop} (k_183 : Int → Mo TS A) (hk_183 : ∀ (l4 : Int), R32 l4 → Sx Γ (fun t => (h, t)) K 183 [(0, vA (mg Γ) 21), (4, vI l4)] [] (k_183 l4)) (l3 : Int) (l4 : Int) (l5 : Int) (l6 : Int) (hl3 : R32 l3) (hl4 : R32 l4) (hl5 : R32 l5) (hl6 : R32 l6) : Sx Γ (fun t => (h, t)) (KL Γ (fun t => (h, t)) okt_enter_113 K 113 (lvt_enter_113 Γ) []) 113 [(0, vA (mg Γ) 21), (3, vI l3), (4, vI l4), (5, vI l5), (6, vI l6)] [] (t_enter_113b k_183 l3 l4 l5 l6) := by
  unfold t_enter_113b
  refine s_iload o dX11_enter_113 4 rfl ?_
  refine s_bipush o dX11_enter_115 rfl ?_
  refine s_icmp_ge (tgt := 183) o dX11_enter_117 (by decide) hl6 (r32 rfl) ?_ ?_
  · refine r_to [(0, vA (mg Γ) 21), (4, vI l4)] [0, 2] rfl ?_
    exact s_lo (hk_183 l4 hl4)
  · refine s_iload o dX11_enter_120 3 rfl ?_
    refine s_aload_n o dX11_enter_122 rfl 0 rfl ?_
    refine s_tga (x := 85) o hT tf_cellCounts ta_cellCounts (lw_all_tbl q2600) dX11_enter_123 ?_
    refine s_iload_n o dX11_enter_126 rfl 1 rfl ?_
    refine r_tiald o hT tr_cellCounts hl3 dX11_enter_127 (fun v1 hv1 => ?_)
    refine s_icmp_ge (tgt := 183) o dX11_enter_128 (by decide) hl5 hv1 ?_ ?_
    · refine r_to [(0, vA (mg Γ) 21), (4, vI l4)] [0, 2] rfl ?_
      exact s_lo (hk_183 l4 hl4)
    · refine s_aload_n o dX11_enter_131 rfl 0 rfl ?_
      refine s_tga (x := 66) o hT tf_outside ta_outside (lw_all_tbl q2576) dX11_enter_132 ?_
      refine s_iload o dX11_enter_135 2 rfl ?_
      refine r_tlald o hT tr_outside hl4 dX11_enter_137 (fun v2 hv2 => ?_)
      refine s_iload o dX11_enter_138 4 rfl ?_
      refine s_lshr o dX11_enter_140 ?_
      refine s_lconst (x := 1) o dX11_enter_141 rfl ?_
      refine s_land o dX11_enter_142 ?_
      refine s_lconst (x := 1) o dX11_enter_143 rfl ?_
      refine s_lcmp_ne (tgt := 177) o dX11_enter_144 dX11_enter_145 (by decide) (land_R _ _) (r64 rfl) ?_ ?_
      · exact st_enter_177 hT o k_183 hk_183 l3 l4 l5 l6 hl3 hl4 hl5 hl6
      · refine s_aload_n o dX11_enter_148 rfl 0 rfl ?_
        refine s_tga (x := 93) o hT tf_locals ta_locals (lw_all_tbl q2628) dX11_enter_149 ?_
        refine s_aload_n o dX11_enter_152 rfl 0 rfl ?_
        refine r_tgf vI rfl o hT tf_base tj_base (lw_all_tbl q2626) dX11_enter_153 (fun v3 hv3 => ?_)
        refine s_iload o dX11_enter_156 4 rfl ?_
        refine s_iadd o dX11_enter_158 ?_
        refine s_aload_n o dX11_enter_159 rfl 0 rfl ?_
        refine s_tga (x := 86) o hT tf_fields ta_fields (lw_all_tbl q2603) dX11_enter_160 ?_
        refine s_aload_n o dX11_enter_163 rfl 0 rfl ?_
        refine s_tga (x := 84) o hT tf_cellBegins ta_cellBegins (lw_all_tbl q2599) dX11_enter_164 ?_
        refine s_iload_n o dX11_enter_167 rfl 1 rfl ?_
        refine r_tiald o hT tr_cellBegins hl3 dX11_enter_168 (fun v4 hv4 => ?_)
        refine s_iload o dX11_enter_169 3 rfl ?_
        refine s_iadd o dX11_enter_171 ?_
        refine r_tlald o hT tr_fields (w32_R _) dX11_enter_172 (fun v5 hv5 => ?_)
        refine r_tlast o hT tr_locals (w32_R _) hv5 dX11_enter_173 ?_
        refine r_iinc (j := 3) o dX11_enter_174 rfl rfl [(0, vA (mg Γ) 21), (3, vI l3), (4, vI l4), (6, vI l6)] [0, 1, 2, 4] rfl ⟨(Nat.ne_of_beq_eq_false rfl), (fun _ => (vA_cat (mg Γ) 21)), ⟨(Nat.ne_of_beq_eq_false rfl), (fun _ => rfl), ⟨(Nat.ne_of_beq_eq_false rfl), (fun _ => rfl), ⟨(Nat.ne_of_beq_eq_false rfl), (fun _ => rfl), trivial⟩⟩⟩⟩ ?_
        refine r_to [(0, vA (mg Γ) 21), (3, vI l3), (4, vI l4), (5, vI (w32 (l5 + 1))), (6, vI l6)] [1, 2, 3, 0, 4] rfl ?_
        exact st_enter_177 hT o k_183 hk_183 l3 l4 (w32 (l5 + 1)) l6 hl3 hl4 (w32_R _) hl6
noncomputable def t_enter_113 {A : Type} (k_183 : Int → Mo TS A) (l3 : Int) (l4 : Int) (l5 : Int) (l6 : Int) : Mo TS A := Loop (fun x => t_enter_113b k_183 x.1 x.2.1 x.2.2.1 x.2.2.2) (l3, l4, l5, l6)
theorem st_enter_113 {Γ : Gm} {h : CH} {d : Nat} (hT : HT h) (o : Ok Γ "LazyForgeModel" cX11_enter 7 (Option.none : Option Jvm.ClassFile.FieldType) (d + 2)) {A : Type} {K : A → TS → Prop} (k_183 : Int → Mo TS A) (hk_183 : ∀ (l4 : Int), R32 l4 → Sx Γ (fun t => (h, t)) K 183 [(0, vA (mg Γ) 21), (4, vI l4)] [] (k_183 l4)) (l3 : Int) (l4 : Int) (l5 : Int) (l6 : Int) (hl3 : R32 l3) (hl4 : R32 l4) (hl5 : R32 l5) (hl6 : R32 l6) : Sx Γ (fun t => (h, t)) K 113 [(0, vA (mg Γ) 21), (3, vI l3), (4, vI l4), (5, vI l5), (6, vI l6)] [] (t_enter_113 k_183 l3 l4 l5 l6) :=
  s_loop okt_enter_113 (lvt_enter_113 Γ) (fun x hx => st_enter_113b hT o k_183 hk_183 x.1 x.2.1 x.2.2.1 x.2.2.2 hx.1 hx.2.1 hx.2.2.1 hx.2.2.2) (x := (l3, l4, l5, l6)) ⟨hl3, hl4, hl5, hl6⟩
noncomputable def t_enter (l1 : Int) : Mo TS Int :=
  bnd (t_kindOf l1) fun v1 =>
  if v1 = 3 then
    bnd (t_of l1) fun v2 =>
    bnd (rd 92 4100 v2) fun v3 =>
    if v3 = 2 then
      bnd (rd 93 4100 v2) fun v5 =>
      bnd (wr 92 4100 v2 3) fun _ =>
      bnd (t_waits 0 0 v2) fun _ =>
      bnd (rd 71 7000 v5) fun v6 =>
      bnd (t_frame v6) fun _ =>
      t_enter_113
        (fun v7 => bnd (t_evaluate v7) fun _ =>
      pr 0) v2 v5 0 0
    else
      if v3 = 3 then
        bnd (t_ends 2 3) fun _ =>
        pr 0
      else
        if v3 = 4 then
          bnd (rd 94 4100 v2) fun v10 =>
          bnd (t_gives v10) fun _ =>
          pr 0
        else
          bnd (t_gives l1) fun _ =>
          pr 0
  else
    bnd (t_gives l1) fun _ =>
    pr 0
theorem st_enter (g : gC) (d : Nat) (h : CH) (hT : HT h) (l1 : Int) (hl1 : R64 l1) : SF g yX11_enter (Cond.code yX11_enter cX11_enter 7 (Option.none : Option Jvm.ClassFile.FieldType)) (Option.none : Option Jvm.ClassFile.FieldType) (d + 2) [vA g 21, vJ l1] (fun t => (h, t)) (t_enter l1) := by
  refine SF.of (lv := [(0, vA g 21), (1, vJ l1)]) (by decide) (wt_A (wt_J wt_0)) rfl (by simp only [la_A, la_I, la_J, la_0]) (fun Γ hg hnm o => ?_)
  subst hg
  have o : Ok Γ "LazyForgeModel" cX11_enter 7 (Option.none : Option Jvm.ClassFile.FieldType) (d + 2) := o
  unfold t_enter
  refine s_lload_n o dX11_enter_0 rfl 1 rfl ?_
  refine s_cs (d := d + 1) (As := [vJ l1]) (st := []) o (st_kindOf (mg Γ) (d + 1) h l1 hl1) mw_X11_kindOf rfl (Or.inl (lw_all_tbl q3254)) (lw_all_tbl q3255) wt_0 rfl dX11_enter_1 rfl (rs := fun r => [vI r]) (fun _ => rfl) (fun v1 hv1 => ?_)
  refine s_iconst o dX11_enter_4 ?_
  refine s_icmp_eq (tgt := 14) o dX11_enter_5 (by decide) (hv1 _ rfl) (r32 rfl) ?_ ?_
  · refine s_lload_n o dX11_enter_14 rfl 1 rfl ?_
    refine s_cs (d := d + 1) (As := [vJ l1]) (st := []) o (st_of (mg Γ) (d + 1) h l1 hl1) mw_X11_of rfl (Or.inl (lw_all_tbl q3261)) (lw_all_tbl q3262) wt_0 rfl dX11_enter_15 rfl (rs := fun r => [vI r]) (fun _ => rfl) (fun v2 hv2 => ?_)
    refine r_istore_n o dX11_enter_18 rfl rfl ⟨(Nat.ne_of_beq_eq_false rfl), (fun _ => (vA_cat (mg Γ) 21)), ⟨(Nat.ne_of_beq_eq_false rfl), (fun e => absurd e (Nat.ne_of_beq_eq_false rfl)), trivial⟩⟩ ?_
    refine s_aload_n o dX11_enter_19 rfl 1 rfl ?_
    refine s_tga (x := 81) o hT tf_cellSorts ta_cellSorts (lw_all_tbl q2596) dX11_enter_20 ?_
    refine s_iload_n o dX11_enter_23 rfl 0 rfl ?_
    refine r_tiald o hT tr_cellSorts (hv2 _ rfl) dX11_enter_24 (fun v3 hv3 => ?_)
    refine s_case (P := True) (fun e3 => ?_) (fun e3 => ?_)
    · refine s_tabE o e3 dX11_enter_25 (r32 rfl) rfl rfl (tgt := 74) (by decide) ?_
      refine s_aload_n o dX11_enter_74 rfl 1 rfl ?_
      refine s_tga (x := 82) o hT tf_cellValues ta_cellValues (lw_all_tbl q2597) dX11_enter_75 ?_
      refine s_iload_n o dX11_enter_78 rfl 0 rfl ?_
      refine r_tiald o hT tr_cellValues (hv2 _ rfl) dX11_enter_79 (fun v5 hv5 => ?_)
      refine r_istore o dX11_enter_80 rfl ⟨(Nat.ne_of_beq_eq_false rfl), (fun _ => rfl), ⟨(Nat.ne_of_beq_eq_false rfl), (fun _ => (vA_cat (mg Γ) 21)), ⟨(Nat.ne_of_beq_eq_false rfl), (fun e => absurd e (Nat.ne_of_beq_eq_false rfl)), trivial⟩⟩⟩ ?_
      refine s_aload_n o dX11_enter_82 rfl 2 rfl ?_
      refine s_tga (x := 81) o hT tf_cellSorts ta_cellSorts (lw_all_tbl q2596) dX11_enter_83 ?_
      refine s_iload_n o dX11_enter_86 rfl 1 rfl ?_
      refine s_iconst o dX11_enter_87 ?_
      refine r_tiast o hT tr_cellSorts (hv2 _ rfl) (r32 rfl) dX11_enter_88 ?_
      refine s_aload_n o dX11_enter_89 rfl 2 rfl ?_
      refine s_iconst o dX11_enter_90 ?_
      refine s_iconst o dX11_enter_91 ?_
      refine s_iload_n o dX11_enter_92 rfl 1 rfl ?_
      refine s_cv (d := d + 1) (C := "LazyForgeModel") (As := [vI 0, vI 0, vI v2]) (st := []) o (st_waits (mg Γ) (d + 1) h hT 0 0 v2 (r32 rfl) (r32 rfl) (hv2 _ rfl)) mw_X11_waits rfl (Or.inl (lw_all_tbl q3264)) (lw_all_tbl qs130) (lw_all_tbl q3266) (fun t => rc_t o hT t) wt_0 rfl dX11_enter_93 rfl (rs := fun _ => []) (fun _ => rfl) (fun _ _ => ?_)
      refine s_aload_n o dX11_enter_96 rfl 2 rfl ?_
      refine s_aload_n o dX11_enter_97 rfl 2 rfl ?_
      refine s_tga (x := 65) o hT tf_liftFunctions ta_liftFunctions (lw_all_tbl q2575) dX11_enter_98 ?_
      refine s_iload o dX11_enter_101 0 rfl ?_
      refine r_tiald o hT tr_liftFunctions hv5 dX11_enter_103 (fun v6 hv6 => ?_)
      refine s_cv (d := d + 1) (C := "LazyForgeModel") (As := [vI v6]) (st := []) o (st_frame (mg Γ) d h hT v6 hv6) mw_X11_frame rfl (Or.inl (lw_all_tbl q3268)) (lw_all_tbl qs131) (lw_all_tbl q3270) (fun t => rc_t o hT t) wt_0 rfl dX11_enter_104 rfl (rs := fun _ => []) (fun _ => rfl) (fun _ _ => ?_)
      refine s_iconst o dX11_enter_107 ?_
      refine r_istore o dX11_enter_108 rfl ⟨(Nat.ne_of_beq_eq_false rfl), (fun _ => rfl), ⟨(Nat.ne_of_beq_eq_false rfl), (fun _ => rfl), ⟨(Nat.ne_of_beq_eq_false rfl), (fun _ => (vA_cat (mg Γ) 21)), ⟨(Nat.ne_of_beq_eq_false rfl), (fun e => absurd e (Nat.ne_of_beq_eq_false rfl)), trivial⟩⟩⟩⟩ ?_
      refine s_iconst o dX11_enter_110 ?_
      refine r_istore o dX11_enter_111 rfl ⟨(Nat.ne_of_beq_eq_false rfl), (fun _ => rfl), ⟨(Nat.ne_of_beq_eq_false rfl), (fun _ => rfl), ⟨(Nat.ne_of_beq_eq_false rfl), (fun _ => rfl), ⟨(Nat.ne_of_beq_eq_false rfl), (fun _ => (vA_cat (mg Γ) 21)), ⟨(Nat.ne_of_beq_eq_false rfl), (fun e => absurd e (Nat.ne_of_beq_eq_false rfl)), trivial⟩⟩⟩⟩⟩ ?_
      refine r_to [(0, vA (mg Γ) 21), (3, vI v2), (4, vI v5), (5, vI 0), (6, vI 0)] [4, 3, 2, 1, 0] rfl ?_
      refine st_enter_113 hT o _ ?_ v2 v5 0 0 (hv2 _ rfl) hv5 (r32 rfl) (r32 rfl)
      · intro v7 hv7
        refine s_aload_n o dX11_enter_183 rfl 0 rfl ?_
        refine s_iload o dX11_enter_184 1 rfl ?_
        refine s_cv (d := d + 1) (C := "LazyForgeModel") (As := [vI v7]) (st := []) o (st_evaluate (mg Γ) (d + 1) h hT v7 hv7) mw_X11_evaluate rfl (Or.inl (lw_all_tbl q3272)) (lw_all_tbl qs132) (lw_all_tbl q3274) (fun t => rc_t o hT t) wt_0 rfl dX11_enter_186 rfl (rs := fun _ => []) (fun _ => rfl) (fun _ _ => ?_)
        refine s_goto (tgt := 197) o dX11_enter_189 (by decide) ?_
        exact s_vret o rfl dX11_enter_197 (fun _ hh => hh)
    · refine s_case (P := True) (fun e7 => ?_) (fun e7 => ?_)
      · refine s_tabE o e7 dX11_enter_25 (r32 rfl) rfl rfl (tgt := 65) (by decide) ?_
        refine s_aload_n o dX11_enter_65 rfl 1 rfl ?_
        refine s_iconst o dX11_enter_66 ?_
        refine s_iconst o dX11_enter_67 ?_
        refine s_cv (d := d + 1) (C := "LazyForgeModel") (As := [vI 2, vI 3]) (st := []) o (st_ends (mg Γ) (d + 1) h hT 2 3 (r32 rfl) (r32 rfl)) mw_X11_ends rfl (Or.inl (lw_all_tbl q3238)) (lw_all_tbl qs126) (lw_all_tbl q3240) (fun t => rc_t o hT t) wt_0 rfl dX11_enter_68 rfl (rs := fun _ => []) (fun _ => rfl) (fun _ _ => ?_)
        refine s_goto (tgt := 197) o dX11_enter_71 (by decide) ?_
        exact s_vret o rfl dX11_enter_197 (fun _ hh => hh)
      · refine s_case (P := True) (fun e8 => ?_) (fun e8 => ?_)
        · refine s_tabE o e8 dX11_enter_25 (r32 rfl) rfl rfl (tgt := 52) (by decide) ?_
          refine s_aload_n o dX11_enter_52 rfl 1 rfl ?_
          refine s_aload_n o dX11_enter_53 rfl 1 rfl ?_
          refine s_tga (x := 83) o hT tf_cellDone ta_cellDone (lw_all_tbl q2598) dX11_enter_54 ?_
          refine s_iload_n o dX11_enter_57 rfl 0 rfl ?_
          refine r_tlald o hT tr_cellDone (hv2 _ rfl) dX11_enter_58 (fun v10 hv10 => ?_)
          refine s_cv (d := d + 1) (C := "LazyForgeModel") (As := [vJ v10]) (st := []) o (st_gives (mg Γ) (d + 1) h hT v10 hv10) mw_X11_gives rfl (Or.inl (lw_all_tbl q3257)) (lw_all_tbl qs129) (lw_all_tbl q3259) (fun t => rc_t o hT t) wt_0 rfl dX11_enter_59 rfl (rs := fun _ => []) (fun _ => rfl) (fun _ _ => ?_)
          refine s_goto (tgt := 197) o dX11_enter_62 (by decide) ?_
          exact s_vret o rfl dX11_enter_197 (fun _ hh => hh)
        · refine s_tabOut o dX11_enter_25 hv3 (by omega) (tgt := 192) (by decide) ?_
          refine s_aload_n o dX11_enter_192 rfl 1 rfl ?_
          refine s_lload_n o dX11_enter_193 rfl 2 rfl ?_
          refine s_cv (d := d + 1) (C := "LazyForgeModel") (As := [vJ l1]) (st := []) o (st_gives (mg Γ) (d + 1) h hT l1 hl1) mw_X11_gives rfl (Or.inl (lw_all_tbl q3257)) (lw_all_tbl qs129) (lw_all_tbl q3259) (fun t => rc_t o hT t) wt_0 rfl dX11_enter_194 rfl (rs := fun _ => []) (fun _ => rfl) (fun _ _ => ?_)
          exact s_vret o rfl dX11_enter_197 (fun _ hh => hh)
  · refine s_aload_n o dX11_enter_8 rfl 0 rfl ?_
    refine s_lload_n o dX11_enter_9 rfl 1 rfl ?_
    refine s_cv (d := d + 1) (C := "LazyForgeModel") (As := [vJ l1]) (st := []) o (st_gives (mg Γ) (d + 1) h hT l1 hl1) mw_X11_gives rfl (Or.inl (lw_all_tbl q3257)) (lw_all_tbl qs129) (lw_all_tbl q3259) (fun t => rc_t o hT t) wt_0 rfl dX11_enter_10 rfl (rs := fun _ => []) (fun _ => rfl) (fun _ _ => ?_)
    exact s_vret o rfl dX11_enter_13 (fun _ hh => hh)
theorem dX11_make_0 : decode cX11_make 0 = .ok (.aload_n 0, 1) := by decide +kernel
theorem dX11_make_1 : decode cX11_make 1 = .ok (.getfield 119, 3) := by decide +kernel
theorem dX11_make_4 : decode cX11_make 4 = .ok (.iload_n 1, 1) := by decide +kernel
theorem dX11_make_5 : decode cX11_make 5 = .ok (.iaload, 1) := by decide +kernel
theorem dX11_make_6 : decode cX11_make 6 = .ok (.bipush 7, 2) := by decide +kernel
theorem dX11_make_8 : decode cX11_make 8 = .ok (.if_icmp .ne 29, 3) := by decide +kernel
theorem dX11_make_11 : decode cX11_make 11 = .ok (.aload_n 0, 1) := by decide +kernel
theorem dX11_make_12 : decode cX11_make 12 = .ok (.iconst 0, 1) := by decide +kernel
theorem dX11_make_13 : decode cX11_make 13 = .ok (.aload_n 0, 1) := by decide +kernel
theorem dX11_make_14 : decode cX11_make 14 = .ok (.getfield 122, 3) := by decide +kernel
theorem dX11_make_17 : decode cX11_make 17 = .ok (.iload_n 1, 1) := by decide +kernel
theorem dX11_make_18 : decode cX11_make 18 = .ok (.iaload, 1) := by decide +kernel
theorem dX11_make_19 : decode cX11_make 19 = .ok (.aload_n 0, 1) := by decide +kernel
theorem dX11_make_20 : decode cX11_make 20 = .ok (.getfield 128, 3) := by decide +kernel
theorem dX11_make_23 : decode cX11_make 23 = .ok (.iload_n 1, 1) := by decide +kernel
theorem dX11_make_24 : decode cX11_make 24 = .ok (.iaload, 1) := by decide +kernel
theorem dX11_make_25 : decode cX11_make 25 = .ok (.iconst 1, 1) := by decide +kernel
theorem dX11_make_26 : decode cX11_make 26 = .ok (.aload_n 0, 1) := by decide +kernel
theorem dX11_make_27 : decode cX11_make 27 = .ok (.getfield 128, 3) := by decide +kernel
theorem dX11_make_30 : decode cX11_make 30 = .ok (.iload_n 1, 1) := by decide +kernel
theorem dX11_make_31 : decode cX11_make 31 = .ok (.iaload, 1) := by decide +kernel
theorem dX11_make_32 : decode cX11_make 32 = .ok (.iadd, 1) := by decide +kernel
theorem dX11_make_33 : decode cX11_make 33 = .ok (.invokevirtual 653, 3) := by decide +kernel
theorem dX11_make_36 : decode cX11_make 36 = .ok (.ireturn, 1) := by decide +kernel
theorem dX11_make_37 : decode cX11_make 37 = .ok (.aload_n 0, 1) := by decide +kernel
theorem dX11_make_38 : decode cX11_make 38 = .ok (.iload_n 1, 1) := by decide +kernel
theorem dX11_make_39 : decode cX11_make 39 = .ok (.invokevirtual 657, 3) := by decide +kernel
theorem dX11_make_42 : decode cX11_make 42 = .ok (.ifCond .eq 36, 3) := by decide +kernel
theorem dX11_make_45 : decode cX11_make 45 = .ok (.aload_n 0, 1) := by decide +kernel
theorem dX11_make_46 : decode cX11_make 46 = .ok (.iconst 1, 1) := by decide +kernel
theorem dX11_make_47 : decode cX11_make 47 = .ok (.aload_n 0, 1) := by decide +kernel
theorem dX11_make_48 : decode cX11_make 48 = .ok (.getfield 122, 3) := by decide +kernel
theorem dX11_make_51 : decode cX11_make 51 = .ok (.aload_n 0, 1) := by decide +kernel
theorem dX11_make_52 : decode cX11_make 52 = .ok (.iload_n 1, 1) := by decide +kernel
theorem dX11_make_53 : decode cX11_make 53 = .ok (.iconst 0, 1) := by decide +kernel
theorem dX11_make_54 : decode cX11_make 54 = .ok (.invokevirtual 545, 3) := by decide +kernel
theorem dX11_make_57 : decode cX11_make 57 = .ok (.iaload, 1) := by decide +kernel
theorem dX11_make_58 : decode cX11_make 58 = .ok (.aload_n 0, 1) := by decide +kernel
theorem dX11_make_59 : decode cX11_make 59 = .ok (.getfield 128, 3) := by decide +kernel
theorem dX11_make_62 : decode cX11_make 62 = .ok (.iload_n 1, 1) := by decide +kernel
theorem dX11_make_63 : decode cX11_make 63 = .ok (.iaload, 1) := by decide +kernel
theorem dX11_make_64 : decode cX11_make 64 = .ok (.iconst 1, 1) := by decide +kernel
theorem dX11_make_65 : decode cX11_make 65 = .ok (.isub, 1) := by decide +kernel
theorem dX11_make_66 : decode cX11_make 66 = .ok (.iconst 1, 1) := by decide +kernel
theorem dX11_make_67 : decode cX11_make 67 = .ok (.aload_n 0, 1) := by decide +kernel
theorem dX11_make_68 : decode cX11_make 68 = .ok (.getfield 128, 3) := by decide +kernel
theorem dX11_make_71 : decode cX11_make 71 = .ok (.iload_n 1, 1) := by decide +kernel
theorem dX11_make_72 : decode cX11_make 72 = .ok (.iaload, 1) := by decide +kernel
theorem dX11_make_73 : decode cX11_make 73 = .ok (.iadd, 1) := by decide +kernel
theorem dX11_make_74 : decode cX11_make 74 = .ok (.invokevirtual 653, 3) := by decide +kernel
theorem dX11_make_77 : decode cX11_make 77 = .ok (.ireturn, 1) := by decide +kernel
theorem dX11_make_78 : decode cX11_make 78 = .ok (.aload_n 0, 1) := by decide +kernel
theorem dX11_make_79 : decode cX11_make 79 = .ok (.getfield 144, 3) := by decide +kernel
theorem dX11_make_82 : decode cX11_make 82 = .ok (.iload_n 1, 1) := by decide +kernel
theorem dX11_make_83 : decode cX11_make 83 = .ok (.laload, 1) := by decide +kernel
theorem dX11_make_84 : decode cX11_make 84 = .ok (.invokestatic 660, 3) := by decide +kernel
theorem dX11_make_87 : decode cX11_make 87 = .ok (.istore_n 2, 1) := by decide +kernel
theorem dX11_make_88 : decode cX11_make 88 = .ok (.aload_n 0, 1) := by decide +kernel
theorem dX11_make_89 : decode cX11_make 89 = .ok (.iconst 2, 1) := by decide +kernel
theorem dX11_make_90 : decode cX11_make 90 = .ok (.iload_n 1, 1) := by decide +kernel
theorem dX11_make_91 : decode cX11_make 91 = .ok (.iload_n 2, 1) := by decide +kernel
theorem dX11_make_92 : decode cX11_make 92 = .ok (.iconst 1, 1) := by decide +kernel
theorem dX11_make_93 : decode cX11_make 93 = .ok (.iload_n 2, 1) := by decide +kernel
theorem dX11_make_94 : decode cX11_make 94 = .ok (.iadd, 1) := by decide +kernel
theorem dX11_make_95 : decode cX11_make 95 = .ok (.invokevirtual 653, 3) := by decide +kernel
theorem dX11_make_98 : decode cX11_make 98 = .ok (.ireturn, 1) := by decide +kernel
theorem mw_X11_make : MW yX11_make (Cond.code yX11_make cX11_make 3 (Option.some Jvm.ClassFile.FieldType.int)) cX11_make 3 (Option.some Jvm.ClassFile.FieldType.int) 1 := ⟨rfl, ⟨(lw_all_tbl q3308), rfl, (lw_all_tbl q173)⟩, rfl, ⟨by decide, by decide⟩, by decide +kernel⟩
noncomputable def t_make (l1 : Int) : Mo TS Int :=
  bnd (rd 64 7000 l1) fun v1 =>
  if ¬ v1 = 7 then
    bnd (t_isLess l1) fun v2 =>
    if v2 = 0 then
      bnd (rd 72 7000 l1) fun v3 =>
      bnd (t_ones v3) fun v4 =>
      bnd (t_newCell 2 l1 v4 (w32 (1 + v4))) fun v5 =>
      pr v5
    else
      bnd (t_child l1 0) fun v6 =>
      bnd (rd 65 7000 v6) fun v7 =>
      bnd (rd 67 7000 l1) fun v8 =>
      bnd (rd 67 7000 l1) fun v9 =>
      bnd (t_newCell 1 v7 (w32 (v8 - 1)) (w32 (1 + v9))) fun v10 =>
      pr v10
  else
    bnd (rd 65 7000 l1) fun v11 =>
    bnd (rd 67 7000 l1) fun v12 =>
    bnd (rd 67 7000 l1) fun v13 =>
    bnd (t_newCell 0 v11 v12 (w32 (1 + v13))) fun v14 =>
    pr v14
theorem st_make (g : gC) (d : Nat) (h : CH) (hT : HT h) (l1 : Int) (hl1 : R32 l1) : SF g yX11_make (Cond.code yX11_make cX11_make 3 (Option.some Jvm.ClassFile.FieldType.int)) (Option.some Jvm.ClassFile.FieldType.int) (d + 2) [vA g 21, vI l1] (fun t => (h, t)) (t_make l1) := by
  refine SF.of (lv := [(0, vA g 21), (1, vI l1)]) (by decide) (wt_A (wt_I wt_0)) rfl (by simp only [la_A, la_I, la_J, la_0]) (fun Γ hg hnm o => ?_)
  subst hg
  have o : Ok Γ "LazyForgeModel" cX11_make 3 (Option.some Jvm.ClassFile.FieldType.int) (d + 2) := o
  unfold t_make
  refine s_aload_n o dX11_make_0 rfl 0 rfl ?_
  refine s_tga (x := 58) o hT tf_liftKinds ta_liftKinds (lw_all_tbl q2568) dX11_make_1 ?_
  refine s_iload_n o dX11_make_4 rfl 1 rfl ?_
  refine r_tiald o hT tr_liftKinds hl1 dX11_make_5 (fun v1 hv1 => ?_)
  refine s_bipush o dX11_make_6 rfl ?_
  refine s_icmp_ne (tgt := 37) o dX11_make_8 (by decide) hv1 (r32 rfl) ?_ ?_
  · refine s_aload_n o dX11_make_37 rfl 0 rfl ?_
    refine s_iload_n o dX11_make_38 rfl 1 rfl ?_
    refine s_cv (d := d + 1) (C := "LazyForgeModel") (As := [vI l1]) (st := []) o (st_isLess (mg Γ) d h hT l1 hl1) mw_X11_isLess rfl (Or.inl (lw_all_tbl q3309)) (lw_all_tbl qs141) (lw_all_tbl q3311) (fun t => rc_t o hT t) wt_0 rfl dX11_make_39 rfl (rs := fun r => [vI r]) (fun _ => rfl) (fun v2 hv2 => ?_)
    refine s_if_eq (tgt := 78) o dX11_make_42 (by decide) (rZ (hv2 _ rfl)) ?_ ?_
    · refine s_aload_n o dX11_make_78 rfl 0 rfl ?_
      refine s_tga (x := 66) o hT tf_outside ta_outside (lw_all_tbl q2576) dX11_make_79 ?_
      refine s_iload_n o dX11_make_82 rfl 1 rfl ?_
      refine r_tlald o hT tr_outside hl1 dX11_make_83 (fun v3 hv3 => ?_)
      refine s_cs (d := d + 1) (As := [vJ v3]) (st := []) o (st_ones (mg Γ) (d + 1) h v3 hv3) mw_X11_ones rfl (Or.inl (lw_all_tbl q3313)) (lw_all_tbl q3314) wt_0 rfl dX11_make_84 rfl (rs := fun r => [vI r]) (fun _ => rfl) (fun v4 hv4 => ?_)
      refine r_istore_n o dX11_make_87 rfl rfl ⟨(Nat.ne_of_beq_eq_false rfl), (fun _ => (vA_cat (mg Γ) 21)), ⟨(Nat.ne_of_beq_eq_false rfl), (fun _ => rfl), trivial⟩⟩ ?_
      refine s_aload_n o dX11_make_88 rfl 1 rfl ?_
      refine s_iconst o dX11_make_89 ?_
      refine s_iload_n o dX11_make_90 rfl 2 rfl ?_
      refine s_iload_n o dX11_make_91 rfl 0 rfl ?_
      refine s_iconst o dX11_make_92 ?_
      refine s_iload_n o dX11_make_93 rfl 0 rfl ?_
      refine s_iadd o dX11_make_94 ?_
      refine s_cv (d := d + 1) (C := "LazyForgeModel") (As := [vI 2, vI l1, vI v4, vI (w32 (1 + v4))]) (st := []) o (st_newCell (mg Γ) d h hT 2 l1 v4 (w32 (1 + v4)) (r32 rfl) hl1 (hv4 _ rfl) (w32_R _)) mw_X11_newCell rfl (Or.inl (lw_all_tbl q3234)) (lw_all_tbl qs125) (lw_all_tbl q3236) (fun t => rc_t o hT t) wt_0 rfl dX11_make_95 rfl (rs := fun r => [vI r]) (fun _ => rfl) (fun v5 hv5 => ?_)
      exact s_iret o rfl i_int (hv5 _ rfl) dX11_make_98 (fun _ hh => hh)
    · refine s_aload_n o dX11_make_45 rfl 0 rfl ?_
      refine s_iconst o dX11_make_46 ?_
      refine s_aload_n o dX11_make_47 rfl 0 rfl ?_
      refine s_tga (x := 59) o hT tf_liftValues ta_liftValues (lw_all_tbl q2569) dX11_make_48 ?_
      refine s_aload_n o dX11_make_51 rfl 0 rfl ?_
      refine s_iload_n o dX11_make_52 rfl 1 rfl ?_
      refine s_iconst o dX11_make_53 ?_
      refine s_cv (d := d + 1) (C := "LazyForgeModel") (As := [vI l1, vI 0]) (st := [vA (mg Γ) 59, vI 1, vA (mg Γ) 21]) o (st_child (mg Γ) (d + 1) h hT l1 0 hl1 (r32 rfl)) mw_X11_child rfl (Or.inl (lw_all_tbl q3189)) (lw_all_tbl qs115) (lw_all_tbl q3191) (fun t => rc_t o hT t) (wt_A (wt_I (wt_A wt_0))) rfl dX11_make_54 rfl (rs := fun r => [vI r, vA (mg Γ) 59, vI 1, vA (mg Γ) 21]) (fun _ => rfl) (fun v6 hv6 => ?_)
      refine r_tiald o hT tr_liftValues (hv6 _ rfl) dX11_make_57 (fun v7 hv7 => ?_)
      refine s_aload_n o dX11_make_58 rfl 0 rfl ?_
      refine s_tga (x := 61) o hT tf_liftCounts ta_liftCounts (lw_all_tbl q2571) dX11_make_59 ?_
      refine s_iload_n o dX11_make_62 rfl 1 rfl ?_
      refine r_tiald o hT tr_liftCounts hl1 dX11_make_63 (fun v8 hv8 => ?_)
      refine s_iconst o dX11_make_64 ?_
      refine s_isub o dX11_make_65 ?_
      refine s_iconst o dX11_make_66 ?_
      refine s_aload_n o dX11_make_67 rfl 0 rfl ?_
      refine s_tga (x := 61) o hT tf_liftCounts ta_liftCounts (lw_all_tbl q2571) dX11_make_68 ?_
      refine s_iload_n o dX11_make_71 rfl 1 rfl ?_
      refine r_tiald o hT tr_liftCounts hl1 dX11_make_72 (fun v9 hv9 => ?_)
      refine s_iadd o dX11_make_73 ?_
      refine s_cv (d := d + 1) (C := "LazyForgeModel") (As := [vI 1, vI v7, vI (w32 (v8 - 1)), vI (w32 (1 + v9))]) (st := []) o (st_newCell (mg Γ) d h hT 1 v7 (w32 (v8 - 1)) (w32 (1 + v9)) (r32 rfl) hv7 (w32_R _) (w32_R _)) mw_X11_newCell rfl (Or.inl (lw_all_tbl q3234)) (lw_all_tbl qs125) (lw_all_tbl q3236) (fun t => rc_t o hT t) wt_0 rfl dX11_make_74 rfl (rs := fun r => [vI r]) (fun _ => rfl) (fun v10 hv10 => ?_)
      exact s_iret o rfl i_int (hv10 _ rfl) dX11_make_77 (fun _ hh => hh)
  · refine s_aload_n o dX11_make_11 rfl 0 rfl ?_
    refine s_iconst o dX11_make_12 ?_
    refine s_aload_n o dX11_make_13 rfl 0 rfl ?_
    refine s_tga (x := 59) o hT tf_liftValues ta_liftValues (lw_all_tbl q2569) dX11_make_14 ?_
    refine s_iload_n o dX11_make_17 rfl 1 rfl ?_
    refine r_tiald o hT tr_liftValues hl1 dX11_make_18 (fun v11 hv11 => ?_)
    refine s_aload_n o dX11_make_19 rfl 0 rfl ?_
    refine s_tga (x := 61) o hT tf_liftCounts ta_liftCounts (lw_all_tbl q2571) dX11_make_20 ?_
    refine s_iload_n o dX11_make_23 rfl 1 rfl ?_
    refine r_tiald o hT tr_liftCounts hl1 dX11_make_24 (fun v12 hv12 => ?_)
    refine s_iconst o dX11_make_25 ?_
    refine s_aload_n o dX11_make_26 rfl 0 rfl ?_
    refine s_tga (x := 61) o hT tf_liftCounts ta_liftCounts (lw_all_tbl q2571) dX11_make_27 ?_
    refine s_iload_n o dX11_make_30 rfl 1 rfl ?_
    refine r_tiald o hT tr_liftCounts hl1 dX11_make_31 (fun v13 hv13 => ?_)
    refine s_iadd o dX11_make_32 ?_
    refine s_cv (d := d + 1) (C := "LazyForgeModel") (As := [vI 0, vI v11, vI v12, vI (w32 (1 + v13))]) (st := []) o (st_newCell (mg Γ) d h hT 0 v11 v12 (w32 (1 + v13)) (r32 rfl) hv11 hv12 (w32_R _)) mw_X11_newCell rfl (Or.inl (lw_all_tbl q3234)) (lw_all_tbl qs125) (lw_all_tbl q3236) (fun t => rc_t o hT t) wt_0 rfl dX11_make_33 rfl (rs := fun r => [vI r]) (fun _ => rfl) (fun v14 hv14 => ?_)
    exact s_iret o rfl i_int (hv14 _ rfl) dX11_make_36 (fun _ hh => hh)
theorem dX11_call_0 : decode cX11_call 0 = .ok (.aload_n 0, 1) := by decide +kernel
theorem dX11_call_1 : decode cX11_call 1 = .ok (.getfield 730, 3) := by decide +kernel
theorem dX11_call_4 : decode cX11_call 4 = .ok (.ifCond .ne 10, 3) := by decide +kernel
theorem dX11_call_7 : decode cX11_call 7 = .ok (.aload_n 0, 1) := by decide +kernel
theorem dX11_call_8 : decode cX11_call 8 = .ok (.iconst 3, 1) := by decide +kernel
theorem dX11_call_9 : decode cX11_call 9 = .ok (.iconst 1, 1) := by decide +kernel
theorem dX11_call_10 : decode cX11_call 10 = .ok (.invokevirtual 629, 3) := by decide +kernel
theorem dX11_call_13 : decode cX11_call 13 = .ok (.return_, 1) := by decide +kernel
theorem dX11_call_14 : decode cX11_call 14 = .ok (.aload_n 0, 1) := by decide +kernel
theorem dX11_call_15 : decode cX11_call 15 = .ok (.dup, 1) := by decide +kernel
theorem dX11_call_16 : decode cX11_call 16 = .ok (.getfield 730, 3) := by decide +kernel
theorem dX11_call_19 : decode cX11_call 19 = .ok (.iconst 1, 1) := by decide +kernel
theorem dX11_call_20 : decode cX11_call 20 = .ok (.isub, 1) := by decide +kernel
theorem dX11_call_21 : decode cX11_call 21 = .ok (.putfield 730, 3) := by decide +kernel
theorem dX11_call_24 : decode cX11_call 24 = .ok (.aload_n 0, 1) := by decide +kernel
theorem dX11_call_25 : decode cX11_call 25 = .ok (.dup, 1) := by decide +kernel
theorem dX11_call_26 : decode cX11_call 26 = .ok (.getfield 733, 3) := by decide +kernel
theorem dX11_call_29 : decode cX11_call 29 = .ok (.iconst 1, 1) := by decide +kernel
theorem dX11_call_30 : decode cX11_call 30 = .ok (.iadd, 1) := by decide +kernel
theorem dX11_call_31 : decode cX11_call 31 = .ok (.putfield 733, 3) := by decide +kernel
theorem dX11_call_34 : decode cX11_call 34 = .ok (.aload_n 0, 1) := by decide +kernel
theorem dX11_call_35 : decode cX11_call 35 = .ok (.dup, 1) := by decide +kernel
theorem dX11_call_36 : decode cX11_call 36 = .ok (.getfield 736, 3) := by decide +kernel
theorem dX11_call_39 : decode cX11_call 39 = .ok (.iconst 1, 1) := by decide +kernel
theorem dX11_call_40 : decode cX11_call 40 = .ok (.iadd, 1) := by decide +kernel
theorem dX11_call_41 : decode cX11_call 41 = .ok (.putfield 736, 3) := by decide +kernel
theorem dX11_call_44 : decode cX11_call 44 = .ok (.aload_n 0, 1) := by decide +kernel
theorem dX11_call_45 : decode cX11_call 45 = .ok (.getfield 212, 3) := by decide +kernel
theorem dX11_call_48 : decode cX11_call 48 = .ok (.iload_n 1, 1) := by decide +kernel
theorem dX11_call_49 : decode cX11_call 49 = .ok (.dup2, 1) := by decide +kernel
theorem dX11_call_50 : decode cX11_call 50 = .ok (.iaload, 1) := by decide +kernel
theorem dX11_call_51 : decode cX11_call 51 = .ok (.iconst 1, 1) := by decide +kernel
theorem dX11_call_52 : decode cX11_call 52 = .ok (.iadd, 1) := by decide +kernel
theorem dX11_call_53 : decode cX11_call 53 = .ok (.iastore, 1) := by decide +kernel
theorem dX11_call_54 : decode cX11_call 54 = .ok (.iload_n 2, 1) := by decide +kernel
theorem dX11_call_55 : decode cX11_call 55 = .ok (.ifCond .ge 7, 3) := by decide +kernel
theorem dX11_call_58 : decode cX11_call 58 = .ok (.iconst 0, 1) := by decide +kernel
theorem dX11_call_59 : decode cX11_call 59 = .ok (.goto 9, 3) := by decide +kernel
theorem dX11_call_62 : decode cX11_call 62 = .ok (.aload_n 0, 1) := by decide +kernel
theorem dX11_call_63 : decode cX11_call 63 = .ok (.getfield 206, 3) := by decide +kernel
theorem dX11_call_66 : decode cX11_call 66 = .ok (.iload_n 2, 1) := by decide +kernel
theorem dX11_call_67 : decode cX11_call 67 = .ok (.iaload, 1) := by decide +kernel
theorem dX11_call_68 : decode cX11_call 68 = .ok (.istore 4, 2) := by decide +kernel
theorem dX11_call_70 : decode cX11_call 70 = .ok (.aload_n 0, 1) := by decide +kernel
theorem dX11_call_71 : decode cX11_call 71 = .ok (.getfield 171, 3) := by decide +kernel
theorem dX11_call_74 : decode cX11_call 74 = .ok (.iload_n 1, 1) := by decide +kernel
theorem dX11_call_75 : decode cX11_call 75 = .ok (.iaload, 1) := by decide +kernel
theorem dX11_call_76 : decode cX11_call 76 = .ok (.iload 4, 2) := by decide +kernel
theorem dX11_call_78 : decode cX11_call 78 = .ok (.isub, 1) := by decide +kernel
theorem dX11_call_79 : decode cX11_call 79 = .ok (.istore 5, 2) := by decide +kernel
theorem dX11_call_81 : decode cX11_call 81 = .ok (.iload_n 3, 1) := by decide +kernel
theorem dX11_call_82 : decode cX11_call 82 = .ok (.iload 5, 2) := by decide +kernel
theorem dX11_call_84 : decode cX11_call 84 = .ok (.isub, 1) := by decide +kernel
theorem dX11_call_85 : decode cX11_call 85 = .ok (.istore 6, 2) := by decide +kernel
theorem dX11_call_87 : decode cX11_call 87 = .ok (.aload_n 0, 1) := by decide +kernel
theorem dX11_call_88 : decode cX11_call 88 = .ok (.getfield 724, 3) := by decide +kernel
theorem dX11_call_91 : decode cX11_call 91 = .ok (.iload_n 3, 1) := by decide +kernel
theorem dX11_call_92 : decode cX11_call 92 = .ok (.isub, 1) := by decide +kernel
theorem dX11_call_93 : decode cX11_call 93 = .ok (.istore 7, 2) := by decide +kernel
theorem dX11_call_95 : decode cX11_call 95 = .ok (.iload 6, 2) := by decide +kernel
theorem dX11_call_97 : decode cX11_call 97 = .ok (.ifCond .le 12, 3) := by decide +kernel
theorem dX11_call_100 : decode cX11_call 100 = .ok (.aload_n 0, 1) := by decide +kernel
theorem dX11_call_101 : decode cX11_call 101 = .ok (.bipush 7, 2) := by decide +kernel
theorem dX11_call_103 : decode cX11_call 103 = .ok (.iconst 0, 1) := by decide +kernel
theorem dX11_call_104 : decode cX11_call 104 = .ok (.iload 6, 2) := by decide +kernel
theorem dX11_call_106 : decode cX11_call 106 = .ok (.invokevirtual 685, 3) := by decide +kernel
theorem dX11_call_109 : decode cX11_call 109 = .ok (.aload_n 0, 1) := by decide +kernel
theorem dX11_call_110 : decode cX11_call 110 = .ok (.iload_n 1, 1) := by decide +kernel
theorem dX11_call_111 : decode cX11_call 111 = .ok (.invokevirtual 694, 3) := by decide +kernel
theorem dX11_call_114 : decode cX11_call 114 = .ok (.iconst 0, 1) := by decide +kernel
theorem dX11_call_115 : decode cX11_call 115 = .ok (.istore 8, 2) := by decide +kernel
theorem dX11_call_117 : decode cX11_call 117 = .ok (.iload 8, 2) := by decide +kernel
theorem dX11_call_119 : decode cX11_call 119 = .ok (.iload 4, 2) := by decide +kernel
theorem dX11_call_121 : decode cX11_call 121 = .ok (.if_icmp .ge 35, 3) := by decide +kernel
theorem dX11_call_124 : decode cX11_call 124 = .ok (.aload_n 0, 1) := by decide +kernel
theorem dX11_call_125 : decode cX11_call 125 = .ok (.getfield 233, 3) := by decide +kernel
theorem dX11_call_128 : decode cX11_call 128 = .ok (.aload_n 0, 1) := by decide +kernel
theorem dX11_call_129 : decode cX11_call 129 = .ok (.getfield 614, 3) := by decide +kernel
theorem dX11_call_132 : decode cX11_call 132 = .ok (.iload 8, 2) := by decide +kernel
theorem dX11_call_134 : decode cX11_call 134 = .ok (.iadd, 1) := by decide +kernel
theorem dX11_call_135 : decode cX11_call 135 = .ok (.aload_n 0, 1) := by decide +kernel
theorem dX11_call_136 : decode cX11_call 136 = .ok (.getfield 209, 3) := by decide +kernel
theorem dX11_call_139 : decode cX11_call 139 = .ok (.aload_n 0, 1) := by decide +kernel
theorem dX11_call_140 : decode cX11_call 140 = .ok (.getfield 203, 3) := by decide +kernel
theorem dX11_call_143 : decode cX11_call 143 = .ok (.iload_n 2, 1) := by decide +kernel
theorem dX11_call_144 : decode cX11_call 144 = .ok (.iaload, 1) := by decide +kernel
theorem dX11_call_145 : decode cX11_call 145 = .ok (.iload 8, 2) := by decide +kernel
theorem dX11_call_147 : decode cX11_call 147 = .ok (.iadd, 1) := by decide +kernel
theorem dX11_call_148 : decode cX11_call 148 = .ok (.laload, 1) := by decide +kernel
theorem dX11_call_149 : decode cX11_call 149 = .ok (.lastore, 1) := by decide +kernel
theorem dX11_call_150 : decode cX11_call 150 = .ok (.iinc 8 1, 3) := by decide +kernel
theorem dX11_call_153 : decode cX11_call 153 = .ok (.goto (-36), 3) := by decide +kernel
theorem dX11_call_156 : decode cX11_call 156 = .ok (.iconst 0, 1) := by decide +kernel
theorem dX11_call_157 : decode cX11_call 157 = .ok (.istore 8, 2) := by decide +kernel
theorem dX11_call_159 : decode cX11_call 159 = .ok (.iload 8, 2) := by decide +kernel
theorem dX11_call_161 : decode cX11_call 161 = .ok (.iload 5, 2) := by decide +kernel
theorem dX11_call_163 : decode cX11_call 163 = .ok (.if_icmp .ge 34, 3) := by decide +kernel
theorem dX11_call_166 : decode cX11_call 166 = .ok (.aload_n 0, 1) := by decide +kernel
theorem dX11_call_167 : decode cX11_call 167 = .ok (.getfield 233, 3) := by decide +kernel
theorem dX11_call_170 : decode cX11_call 170 = .ok (.aload_n 0, 1) := by decide +kernel
theorem dX11_call_171 : decode cX11_call 171 = .ok (.getfield 614, 3) := by decide +kernel
theorem dX11_call_174 : decode cX11_call 174 = .ok (.iload 4, 2) := by decide +kernel
theorem dX11_call_176 : decode cX11_call 176 = .ok (.iadd, 1) := by decide +kernel
theorem dX11_call_177 : decode cX11_call 177 = .ok (.iload 8, 2) := by decide +kernel
theorem dX11_call_179 : decode cX11_call 179 = .ok (.iadd, 1) := by decide +kernel
theorem dX11_call_180 : decode cX11_call 180 = .ok (.aload_n 0, 1) := by decide +kernel
theorem dX11_call_181 : decode cX11_call 181 = .ok (.getfield 229, 3) := by decide +kernel
theorem dX11_call_184 : decode cX11_call 184 = .ok (.iload 7, 2) := by decide +kernel
theorem dX11_call_186 : decode cX11_call 186 = .ok (.iload 8, 2) := by decide +kernel
theorem dX11_call_188 : decode cX11_call 188 = .ok (.iadd, 1) := by decide +kernel
theorem dX11_call_189 : decode cX11_call 189 = .ok (.laload, 1) := by decide +kernel
theorem dX11_call_190 : decode cX11_call 190 = .ok (.lastore, 1) := by decide +kernel
theorem dX11_call_191 : decode cX11_call 191 = .ok (.iinc 8 1, 3) := by decide +kernel
theorem dX11_call_194 : decode cX11_call 194 = .ok (.goto (-35), 3) := by decide +kernel
theorem dX11_call_197 : decode cX11_call 197 = .ok (.iconst 0, 1) := by decide +kernel
theorem dX11_call_198 : decode cX11_call 198 = .ok (.istore 8, 2) := by decide +kernel
theorem dX11_call_200 : decode cX11_call 200 = .ok (.iload 8, 2) := by decide +kernel
theorem dX11_call_202 : decode cX11_call 202 = .ok (.iload 6, 2) := by decide +kernel
theorem dX11_call_204 : decode cX11_call 204 = .ok (.if_icmp .ge 32, 3) := by decide +kernel
theorem dX11_call_207 : decode cX11_call 207 = .ok (.aload_n 0, 1) := by decide +kernel
theorem dX11_call_208 : decode cX11_call 208 = .ok (.getfield 229, 3) := by decide +kernel
theorem dX11_call_211 : decode cX11_call 211 = .ok (.iload 7, 2) := by decide +kernel
theorem dX11_call_213 : decode cX11_call 213 = .ok (.iload 8, 2) := by decide +kernel
theorem dX11_call_215 : decode cX11_call 215 = .ok (.iadd, 1) := by decide +kernel
theorem dX11_call_216 : decode cX11_call 216 = .ok (.aload_n 0, 1) := by decide +kernel
theorem dX11_call_217 : decode cX11_call 217 = .ok (.getfield 229, 3) := by decide +kernel
theorem dX11_call_220 : decode cX11_call 220 = .ok (.iload 7, 2) := by decide +kernel
theorem dX11_call_222 : decode cX11_call 222 = .ok (.iload 5, 2) := by decide +kernel
theorem dX11_call_224 : decode cX11_call 224 = .ok (.iadd, 1) := by decide +kernel
theorem dX11_call_225 : decode cX11_call 225 = .ok (.iload 8, 2) := by decide +kernel
theorem dX11_call_227 : decode cX11_call 227 = .ok (.iadd, 1) := by decide +kernel
theorem dX11_call_228 : decode cX11_call 228 = .ok (.laload, 1) := by decide +kernel
theorem dX11_call_229 : decode cX11_call 229 = .ok (.lastore, 1) := by decide +kernel
theorem dX11_call_230 : decode cX11_call 230 = .ok (.iinc 8 1, 3) := by decide +kernel
theorem dX11_call_233 : decode cX11_call 233 = .ok (.goto (-33), 3) := by decide +kernel
theorem dX11_call_236 : decode cX11_call 236 = .ok (.aload_n 0, 1) := by decide +kernel
theorem dX11_call_237 : decode cX11_call 237 = .ok (.iload 7, 2) := by decide +kernel
theorem dX11_call_239 : decode cX11_call 239 = .ok (.iload 6, 2) := by decide +kernel
theorem dX11_call_241 : decode cX11_call 241 = .ok (.iadd, 1) := by decide +kernel
theorem dX11_call_242 : decode cX11_call 242 = .ok (.putfield 724, 3) := by decide +kernel
theorem dX11_call_245 : decode cX11_call 245 = .ok (.aload_n 0, 1) := by decide +kernel
theorem dX11_call_246 : decode cX11_call 246 = .ok (.aload_n 0, 1) := by decide +kernel
theorem dX11_call_247 : decode cX11_call 247 = .ok (.getfield 165, 3) := by decide +kernel
theorem dX11_call_250 : decode cX11_call 250 = .ok (.iload_n 1, 1) := by decide +kernel
theorem dX11_call_251 : decode cX11_call 251 = .ok (.iaload, 1) := by decide +kernel
theorem dX11_call_252 : decode cX11_call 252 = .ok (.invokevirtual 697, 3) := by decide +kernel
theorem dX11_call_255 : decode cX11_call 255 = .ok (.return_, 1) := by decide +kernel
theorem mw_X11_call : MW yX11_call (Cond.code yX11_call cX11_call 9 (Option.none : Option Jvm.ClassFile.FieldType)) cX11_call 9 (Option.none : Option Jvm.ClassFile.FieldType) 3 := ⟨rfl, ⟨(lw_all_tbl q3327), rfl, (lw_all_tbl q173)⟩, rfl, ⟨by decide, by decide⟩, by decide +kernel⟩
abbrev okt_call_200 (x : Int × Int × Int × Int × Int) : Prop := R32 x.1 ∧ R32 x.2.1 ∧ R32 x.2.2.1 ∧ R32 x.2.2.2.1 ∧ R32 x.2.2.2.2
abbrev lvt_call_200 (Γ : Gm) (x : Int × Int × Int × Int × Int) : List (Nat × Value) := [(0, vA (mg Γ) 21), (1, vI x.1), (5, vI x.2.1), (6, vI x.2.2.1), (7, vI x.2.2.2.1), (8, vI x.2.2.2.2)]
noncomputable def t_call_200b {A : Type} (k_236 : Int → Int → Int → Mo TS A) (l1 : Int) (l5 : Int) (l6 : Int) (l7 : Int) (l8 : Int) : Mo TS ((Int × Int × Int × Int × Int) ⊕ A) :=
  if l6 ≤ l8 then
    lo (k_236 l1 l6 l7)
  else
    bnd (rd 121 580000 (w32 ((w32 (l7 + l5)) + l8))) fun v1 =>
    bnd (wr 121 580000 (w32 (l7 + l8)) v1) fun _ =>
    pr (.inl (l1, l5, l6, l7, (w32 (l8 + 1))))
theorem st_call_200b {Γ : Gm} {h : CH} {d : Nat} (hT : HT h) (o : Ok Γ "LazyForgeModel" cX11_call 9 (Option.none : Option Jvm.ClassFile.FieldType) (d + 2)) {A : Type} {K : A → TS → Prop} (k_236 : Int → Int → Int → Mo TS A) (hk_236 : ∀ (l1 : Int) (l6 : Int) (l7 : Int), R32 l1 → R32 l6 → R32 l7 → Sx Γ (fun t => (h, t)) K 236 [(0, vA (mg Γ) 21), (1, vI l1), (6, vI l6), (7, vI l7)] [] (k_236 l1 l6 l7)) (l1 : Int) (l5 : Int) (l6 : Int) (l7 : Int) (l8 : Int) (hl1 : R32 l1) (hl5 : R32 l5) (hl6 : R32 l6) (hl7 : R32 l7) (hl8 : R32 l8) : Sx Γ (fun t => (h, t)) (KL Γ (fun t => (h, t)) okt_call_200 K 200 (lvt_call_200 Γ) []) 200 [(0, vA (mg Γ) 21), (1, vI l1), (5, vI l5), (6, vI l6), (7, vI l7), (8, vI l8)] [] (t_call_200b k_236 l1 l5 l6 l7 l8) := by
  unfold t_call_200b
  refine s_iload o dX11_call_200 5 rfl ?_
  refine s_iload o dX11_call_202 3 rfl ?_
  refine s_icmp_ge (tgt := 236) o dX11_call_204 (by decide) hl8 hl6 ?_ ?_
  · refine r_to [(0, vA (mg Γ) 21), (1, vI l1), (6, vI l6), (7, vI l7)] [0, 1, 3, 4] rfl ?_
    exact s_lo (hk_236 l1 l6 l7 hl1 hl6 hl7)
  · refine s_aload_n o dX11_call_207 rfl 0 rfl ?_
    refine s_tga (x := 92) o hT tf_stack ta_stack (lw_all_tbl q2625) dX11_call_208 ?_
    refine s_iload o dX11_call_211 4 rfl ?_
    refine s_iload o dX11_call_213 5 rfl ?_
    refine s_iadd o dX11_call_215 ?_
    refine s_aload_n o dX11_call_216 rfl 0 rfl ?_
    refine s_tga (x := 92) o hT tf_stack ta_stack (lw_all_tbl q2625) dX11_call_217 ?_
    refine s_iload o dX11_call_220 4 rfl ?_
    refine s_iload o dX11_call_222 2 rfl ?_
    refine s_iadd o dX11_call_224 ?_
    refine s_iload o dX11_call_225 5 rfl ?_
    refine s_iadd o dX11_call_227 ?_
    refine r_tlald o hT tr_stack (w32_R _) dX11_call_228 (fun v1 hv1 => ?_)
    refine r_tlast o hT tr_stack (w32_R _) hv1 dX11_call_229 ?_
    refine r_iinc (j := 5) o dX11_call_230 rfl rfl [(0, vA (mg Γ) 21), (1, vI l1), (5, vI l5), (6, vI l6), (7, vI l7)] [0, 1, 2, 3, 4] rfl ⟨(Nat.ne_of_beq_eq_false rfl), (fun _ => (vA_cat (mg Γ) 21)), ⟨(Nat.ne_of_beq_eq_false rfl), (fun _ => rfl), ⟨(Nat.ne_of_beq_eq_false rfl), (fun _ => rfl), ⟨(Nat.ne_of_beq_eq_false rfl), (fun _ => rfl), ⟨(Nat.ne_of_beq_eq_false rfl), (fun _ => rfl), trivial⟩⟩⟩⟩⟩ ?_
    refine s_goto (tgt := 200) o dX11_call_233 (by decide) ?_
    refine r_to [(0, vA (mg Γ) 21), (1, vI l1), (5, vI l5), (6, vI l6), (7, vI l7), (8, vI (w32 (l8 + 1)))] [1, 2, 3, 4, 5, 0] rfl ?_
    exact s_back (⟨hl1, hl5, hl6, hl7, (w32_R _)⟩) rfl
noncomputable def t_call_200 {A : Type} (k_236 : Int → Int → Int → Mo TS A) (l1 : Int) (l5 : Int) (l6 : Int) (l7 : Int) (l8 : Int) : Mo TS A := Loop (fun x => t_call_200b k_236 x.1 x.2.1 x.2.2.1 x.2.2.2.1 x.2.2.2.2) (l1, l5, l6, l7, l8)
theorem st_call_200 {Γ : Gm} {h : CH} {d : Nat} (hT : HT h) (o : Ok Γ "LazyForgeModel" cX11_call 9 (Option.none : Option Jvm.ClassFile.FieldType) (d + 2)) {A : Type} {K : A → TS → Prop} (k_236 : Int → Int → Int → Mo TS A) (hk_236 : ∀ (l1 : Int) (l6 : Int) (l7 : Int), R32 l1 → R32 l6 → R32 l7 → Sx Γ (fun t => (h, t)) K 236 [(0, vA (mg Γ) 21), (1, vI l1), (6, vI l6), (7, vI l7)] [] (k_236 l1 l6 l7)) (l1 : Int) (l5 : Int) (l6 : Int) (l7 : Int) (l8 : Int) (hl1 : R32 l1) (hl5 : R32 l5) (hl6 : R32 l6) (hl7 : R32 l7) (hl8 : R32 l8) : Sx Γ (fun t => (h, t)) K 200 [(0, vA (mg Γ) 21), (1, vI l1), (5, vI l5), (6, vI l6), (7, vI l7), (8, vI l8)] [] (t_call_200 k_236 l1 l5 l6 l7 l8) :=
  s_loop okt_call_200 (lvt_call_200 Γ) (fun x hx => st_call_200b hT o k_236 hk_236 x.1 x.2.1 x.2.2.1 x.2.2.2.1 x.2.2.2.2 hx.1 hx.2.1 hx.2.2.1 hx.2.2.2.1 hx.2.2.2.2) (x := (l1, l5, l6, l7, l8)) ⟨hl1, hl5, hl6, hl7, hl8⟩
abbrev okt_call_159 (x : Int × Int × Int × Int × Int × Int) : Prop := R32 x.1 ∧ R32 x.2.1 ∧ R32 x.2.2.1 ∧ R32 x.2.2.2.1 ∧ R32 x.2.2.2.2.1 ∧ R32 x.2.2.2.2.2
abbrev lvt_call_159 (Γ : Gm) (x : Int × Int × Int × Int × Int × Int) : List (Nat × Value) := [(0, vA (mg Γ) 21), (1, vI x.1), (4, vI x.2.1), (5, vI x.2.2.1), (6, vI x.2.2.2.1), (7, vI x.2.2.2.2.1), (8, vI x.2.2.2.2.2)]
noncomputable def t_call_159b {A : Type} (k_197 : Int → Int → Int → Int → Mo TS A) (l1 : Int) (l4 : Int) (l5 : Int) (l6 : Int) (l7 : Int) (l8 : Int) : Mo TS ((Int × Int × Int × Int × Int × Int) ⊕ A) :=
  if l5 ≤ l8 then
    lo (k_197 l1 l5 l6 l7)
  else
    bnd (gs 122) fun v1 =>
    bnd (rd 121 580000 (w32 (l7 + l8))) fun v2 =>
    bnd (wr 124 193000 (w32 ((w32 (v1 + l4)) + l8)) v2) fun _ =>
    pr (.inl (l1, l4, l5, l6, l7, (w32 (l8 + 1))))
theorem st_call_159b {Γ : Gm} {h : CH} {d : Nat} (hT : HT h) (o : Ok Γ "LazyForgeModel" cX11_call 9 (Option.none : Option Jvm.ClassFile.FieldType) (d + 2)) {A : Type} {K : A → TS → Prop} (k_197 : Int → Int → Int → Int → Mo TS A) (hk_197 : ∀ (l1 : Int) (l5 : Int) (l6 : Int) (l7 : Int), R32 l1 → R32 l5 → R32 l6 → R32 l7 → Sx Γ (fun t => (h, t)) K 197 [(0, vA (mg Γ) 21), (1, vI l1), (5, vI l5), (6, vI l6), (7, vI l7)] [] (k_197 l1 l5 l6 l7)) (l1 : Int) (l4 : Int) (l5 : Int) (l6 : Int) (l7 : Int) (l8 : Int) (hl1 : R32 l1) (hl4 : R32 l4) (hl5 : R32 l5) (hl6 : R32 l6) (hl7 : R32 l7) (hl8 : R32 l8) : Sx Γ (fun t => (h, t)) (KL Γ (fun t => (h, t)) okt_call_159 K 159 (lvt_call_159 Γ) []) 159 [(0, vA (mg Γ) 21), (1, vI l1), (4, vI l4), (5, vI l5), (6, vI l6), (7, vI l7), (8, vI l8)] [] (t_call_159b k_197 l1 l4 l5 l6 l7 l8) := by
  unfold t_call_159b
  refine s_iload o dX11_call_159 6 rfl ?_
  refine s_iload o dX11_call_161 3 rfl ?_
  refine s_icmp_ge (tgt := 197) o dX11_call_163 (by decide) hl8 hl5 ?_ ?_
  · refine r_to [(0, vA (mg Γ) 21), (1, vI l1), (5, vI l5), (6, vI l6), (7, vI l7)] [0, 1, 3, 4, 5] rfl ?_
    exact s_lo (hk_197 l1 l5 l6 l7 hl1 hl5 hl6 hl7)
  · refine s_aload_n o dX11_call_166 rfl 0 rfl ?_
    refine s_tga (x := 93) o hT tf_locals ta_locals (lw_all_tbl q2628) dX11_call_167 ?_
    refine s_aload_n o dX11_call_170 rfl 0 rfl ?_
    refine r_tgf vI rfl o hT tf_base tj_base (lw_all_tbl q2626) dX11_call_171 (fun v1 hv1 => ?_)
    refine s_iload o dX11_call_174 2 rfl ?_
    refine s_iadd o dX11_call_176 ?_
    refine s_iload o dX11_call_177 6 rfl ?_
    refine s_iadd o dX11_call_179 ?_
    refine s_aload_n o dX11_call_180 rfl 0 rfl ?_
    refine s_tga (x := 92) o hT tf_stack ta_stack (lw_all_tbl q2625) dX11_call_181 ?_
    refine s_iload o dX11_call_184 5 rfl ?_
    refine s_iload o dX11_call_186 6 rfl ?_
    refine s_iadd o dX11_call_188 ?_
    refine r_tlald o hT tr_stack (w32_R _) dX11_call_189 (fun v2 hv2 => ?_)
    refine r_tlast o hT tr_locals (w32_R _) hv2 dX11_call_190 ?_
    refine r_iinc (j := 6) o dX11_call_191 rfl rfl [(0, vA (mg Γ) 21), (1, vI l1), (4, vI l4), (5, vI l5), (6, vI l6), (7, vI l7)] [0, 1, 2, 3, 4, 5] rfl ⟨(Nat.ne_of_beq_eq_false rfl), (fun _ => (vA_cat (mg Γ) 21)), ⟨(Nat.ne_of_beq_eq_false rfl), (fun _ => rfl), ⟨(Nat.ne_of_beq_eq_false rfl), (fun _ => rfl), ⟨(Nat.ne_of_beq_eq_false rfl), (fun _ => rfl), ⟨(Nat.ne_of_beq_eq_false rfl), (fun _ => rfl), ⟨(Nat.ne_of_beq_eq_false rfl), (fun _ => rfl), trivial⟩⟩⟩⟩⟩⟩ ?_
    refine s_goto (tgt := 159) o dX11_call_194 (by decide) ?_
    refine r_to [(0, vA (mg Γ) 21), (1, vI l1), (4, vI l4), (5, vI l5), (6, vI l6), (7, vI l7), (8, vI (w32 (l8 + 1)))] [1, 2, 3, 4, 5, 6, 0] rfl ?_
    exact s_back (⟨hl1, hl4, hl5, hl6, hl7, (w32_R _)⟩) rfl
noncomputable def t_call_159 {A : Type} (k_197 : Int → Int → Int → Int → Mo TS A) (l1 : Int) (l4 : Int) (l5 : Int) (l6 : Int) (l7 : Int) (l8 : Int) : Mo TS A := Loop (fun x => t_call_159b k_197 x.1 x.2.1 x.2.2.1 x.2.2.2.1 x.2.2.2.2.1 x.2.2.2.2.2) (l1, l4, l5, l6, l7, l8)
theorem st_call_159 {Γ : Gm} {h : CH} {d : Nat} (hT : HT h) (o : Ok Γ "LazyForgeModel" cX11_call 9 (Option.none : Option Jvm.ClassFile.FieldType) (d + 2)) {A : Type} {K : A → TS → Prop} (k_197 : Int → Int → Int → Int → Mo TS A) (hk_197 : ∀ (l1 : Int) (l5 : Int) (l6 : Int) (l7 : Int), R32 l1 → R32 l5 → R32 l6 → R32 l7 → Sx Γ (fun t => (h, t)) K 197 [(0, vA (mg Γ) 21), (1, vI l1), (5, vI l5), (6, vI l6), (7, vI l7)] [] (k_197 l1 l5 l6 l7)) (l1 : Int) (l4 : Int) (l5 : Int) (l6 : Int) (l7 : Int) (l8 : Int) (hl1 : R32 l1) (hl4 : R32 l4) (hl5 : R32 l5) (hl6 : R32 l6) (hl7 : R32 l7) (hl8 : R32 l8) : Sx Γ (fun t => (h, t)) K 159 [(0, vA (mg Γ) 21), (1, vI l1), (4, vI l4), (5, vI l5), (6, vI l6), (7, vI l7), (8, vI l8)] [] (t_call_159 k_197 l1 l4 l5 l6 l7 l8) :=
  s_loop okt_call_159 (lvt_call_159 Γ) (fun x hx => st_call_159b hT o k_197 hk_197 x.1 x.2.1 x.2.2.1 x.2.2.2.1 x.2.2.2.2.1 x.2.2.2.2.2 hx.1 hx.2.1 hx.2.2.1 hx.2.2.2.1 hx.2.2.2.2.1 hx.2.2.2.2.2) (x := (l1, l4, l5, l6, l7, l8)) ⟨hl1, hl4, hl5, hl6, hl7, hl8⟩
abbrev okt_call_117 (x : Int × Int × Int × Int × Int × Int × Int) : Prop := R32 x.1 ∧ R32 x.2.1 ∧ R32 x.2.2.1 ∧ R32 x.2.2.2.1 ∧ R32 x.2.2.2.2.1 ∧ R32 x.2.2.2.2.2.1 ∧ R32 x.2.2.2.2.2.2
abbrev lvt_call_117 (Γ : Gm) (x : Int × Int × Int × Int × Int × Int × Int) : List (Nat × Value) := [(0, vA (mg Γ) 21), (1, vI x.1), (2, vI x.2.1), (4, vI x.2.2.1), (5, vI x.2.2.2.1), (6, vI x.2.2.2.2.1), (7, vI x.2.2.2.2.2.1), (8, vI x.2.2.2.2.2.2)]
noncomputable def t_call_117b {A : Type} (k_156 : Int → Int → Int → Int → Int → Mo TS A) (l1 : Int) (l2 : Int) (l4 : Int) (l5 : Int) (l6 : Int) (l7 : Int) (l8 : Int) : Mo TS ((Int × Int × Int × Int × Int × Int × Int) ⊕ A) :=
  if l4 ≤ l8 then
    lo (k_156 l1 l4 l5 l6 l7)
  else
    bnd (gs 122) fun v1 =>
    bnd (rd 95 4100 l2) fun v2 =>
    bnd (rd 99 4100 (w32 (v2 + l8))) fun v3 =>
    bnd (wr 124 193000 (w32 (v1 + l8)) v3) fun _ =>
    pr (.inl (l1, l2, l4, l5, l6, l7, (w32 (l8 + 1))))
theorem st_call_117b {Γ : Gm} {h : CH} {d : Nat} (hT : HT h) (o : Ok Γ "LazyForgeModel" cX11_call 9 (Option.none : Option Jvm.ClassFile.FieldType) (d + 2)) {A : Type} {K : A → TS → Prop} (k_156 : Int → Int → Int → Int → Int → Mo TS A) (hk_156 : ∀ (l1 : Int) (l4 : Int) (l5 : Int) (l6 : Int) (l7 : Int), R32 l1 → R32 l4 → R32 l5 → R32 l6 → R32 l7 → Sx Γ (fun t => (h, t)) K 156 [(0, vA (mg Γ) 21), (1, vI l1), (4, vI l4), (5, vI l5), (6, vI l6), (7, vI l7)] [] (k_156 l1 l4 l5 l6 l7)) (l1 : Int) (l2 : Int) (l4 : Int) (l5 : Int) (l6 : Int) (l7 : Int) (l8 : Int) (hl1 : R32 l1) (hl2 : R32 l2) (hl4 : R32 l4) (hl5 : R32 l5) (hl6 : R32 l6) (hl7 : R32 l7) (hl8 : R32 l8) : Sx Γ (fun t => (h, t)) (KL Γ (fun t => (h, t)) okt_call_117 K 117 (lvt_call_117 Γ) []) 117 [(0, vA (mg Γ) 21), (1, vI l1), (2, vI l2), (4, vI l4), (5, vI l5), (6, vI l6), (7, vI l7), (8, vI l8)] [] (t_call_117b k_156 l1 l2 l4 l5 l6 l7 l8) := by
  unfold t_call_117b
  refine s_iload o dX11_call_117 7 rfl ?_
  refine s_iload o dX11_call_119 3 rfl ?_
  refine s_icmp_ge (tgt := 156) o dX11_call_121 (by decide) hl8 hl4 ?_ ?_
  · refine r_to [(0, vA (mg Γ) 21), (1, vI l1), (4, vI l4), (5, vI l5), (6, vI l6), (7, vI l7)] [0, 1, 3, 4, 5, 6] rfl ?_
    exact s_lo (hk_156 l1 l4 l5 l6 l7 hl1 hl4 hl5 hl6 hl7)
  · refine s_aload_n o dX11_call_124 rfl 0 rfl ?_
    refine s_tga (x := 93) o hT tf_locals ta_locals (lw_all_tbl q2628) dX11_call_125 ?_
    refine s_aload_n o dX11_call_128 rfl 0 rfl ?_
    refine r_tgf vI rfl o hT tf_base tj_base (lw_all_tbl q2626) dX11_call_129 (fun v1 hv1 => ?_)
    refine s_iload o dX11_call_132 7 rfl ?_
    refine s_iadd o dX11_call_134 ?_
    refine s_aload_n o dX11_call_135 rfl 0 rfl ?_
    refine s_tga (x := 86) o hT tf_fields ta_fields (lw_all_tbl q2603) dX11_call_136 ?_
    refine s_aload_n o dX11_call_139 rfl 0 rfl ?_
    refine s_tga (x := 84) o hT tf_cellBegins ta_cellBegins (lw_all_tbl q2599) dX11_call_140 ?_
    refine s_iload_n o dX11_call_143 rfl 2 rfl ?_
    refine r_tiald o hT tr_cellBegins hl2 dX11_call_144 (fun v2 hv2 => ?_)
    refine s_iload o dX11_call_145 7 rfl ?_
    refine s_iadd o dX11_call_147 ?_
    refine r_tlald o hT tr_fields (w32_R _) dX11_call_148 (fun v3 hv3 => ?_)
    refine r_tlast o hT tr_locals (w32_R _) hv3 dX11_call_149 ?_
    refine r_iinc (j := 7) o dX11_call_150 rfl rfl [(0, vA (mg Γ) 21), (1, vI l1), (2, vI l2), (4, vI l4), (5, vI l5), (6, vI l6), (7, vI l7)] [0, 1, 2, 3, 4, 5, 6] rfl ⟨(Nat.ne_of_beq_eq_false rfl), (fun _ => (vA_cat (mg Γ) 21)), ⟨(Nat.ne_of_beq_eq_false rfl), (fun _ => rfl), ⟨(Nat.ne_of_beq_eq_false rfl), (fun _ => rfl), ⟨(Nat.ne_of_beq_eq_false rfl), (fun _ => rfl), ⟨(Nat.ne_of_beq_eq_false rfl), (fun _ => rfl), ⟨(Nat.ne_of_beq_eq_false rfl), (fun _ => rfl), ⟨(Nat.ne_of_beq_eq_false rfl), (fun _ => rfl), trivial⟩⟩⟩⟩⟩⟩⟩ ?_
    refine s_goto (tgt := 117) o dX11_call_153 (by decide) ?_
    refine r_to [(0, vA (mg Γ) 21), (1, vI l1), (2, vI l2), (4, vI l4), (5, vI l5), (6, vI l6), (7, vI l7), (8, vI (w32 (l8 + 1)))] [1, 2, 3, 4, 5, 6, 7, 0] rfl ?_
    exact s_back (⟨hl1, hl2, hl4, hl5, hl6, hl7, (w32_R _)⟩) rfl
noncomputable def t_call_117 {A : Type} (k_156 : Int → Int → Int → Int → Int → Mo TS A) (l1 : Int) (l2 : Int) (l4 : Int) (l5 : Int) (l6 : Int) (l7 : Int) (l8 : Int) : Mo TS A := Loop (fun x => t_call_117b k_156 x.1 x.2.1 x.2.2.1 x.2.2.2.1 x.2.2.2.2.1 x.2.2.2.2.2.1 x.2.2.2.2.2.2) (l1, l2, l4, l5, l6, l7, l8)
theorem st_call_117 {Γ : Gm} {h : CH} {d : Nat} (hT : HT h) (o : Ok Γ "LazyForgeModel" cX11_call 9 (Option.none : Option Jvm.ClassFile.FieldType) (d + 2)) {A : Type} {K : A → TS → Prop} (k_156 : Int → Int → Int → Int → Int → Mo TS A) (hk_156 : ∀ (l1 : Int) (l4 : Int) (l5 : Int) (l6 : Int) (l7 : Int), R32 l1 → R32 l4 → R32 l5 → R32 l6 → R32 l7 → Sx Γ (fun t => (h, t)) K 156 [(0, vA (mg Γ) 21), (1, vI l1), (4, vI l4), (5, vI l5), (6, vI l6), (7, vI l7)] [] (k_156 l1 l4 l5 l6 l7)) (l1 : Int) (l2 : Int) (l4 : Int) (l5 : Int) (l6 : Int) (l7 : Int) (l8 : Int) (hl1 : R32 l1) (hl2 : R32 l2) (hl4 : R32 l4) (hl5 : R32 l5) (hl6 : R32 l6) (hl7 : R32 l7) (hl8 : R32 l8) : Sx Γ (fun t => (h, t)) K 117 [(0, vA (mg Γ) 21), (1, vI l1), (2, vI l2), (4, vI l4), (5, vI l5), (6, vI l6), (7, vI l7), (8, vI l8)] [] (t_call_117 k_156 l1 l2 l4 l5 l6 l7 l8) :=
  s_loop okt_call_117 (lvt_call_117 Γ) (fun x hx => st_call_117b hT o k_156 hk_156 x.1 x.2.1 x.2.2.1 x.2.2.2.1 x.2.2.2.2.1 x.2.2.2.2.2.1 x.2.2.2.2.2.2 hx.1 hx.2.1 hx.2.2.1 hx.2.2.2.1 hx.2.2.2.2.1 hx.2.2.2.2.2.1 hx.2.2.2.2.2.2) (x := (l1, l2, l4, l5, l6, l7, l8)) ⟨hl1, hl2, hl4, hl5, hl6, hl7, hl8⟩
noncomputable def t_call_109  (l1 : Int) (l2 : Int) (l4 : Int) (l5 : Int) (l6 : Int) (l7 : Int) : Mo TS Int :=
  bnd (t_frame l1) fun _ =>
  t_call_117
    (fun v1 v2 v3 v4 v5 => t_call_159
    (fun v6 v7 v8 v9 => t_call_200
    (fun v10 v11 v12 => bnd (ss 120 (w32 (v12 + v11))) fun _ =>
  bnd (rd 80 640 v10) fun v13 =>
  bnd (t_evaluate v13) fun _ =>
  pr 0) v6 v7 v8 v9 0) v1 v2 v3 v4 v5 0) l1 l2 l4 l5 l6 l7 0
theorem st_call_109 {Γ : Gm} {h : CH} {d : Nat} (hT : HT h) (o : Ok Γ "LazyForgeModel" cX11_call 9 (Option.none : Option Jvm.ClassFile.FieldType) (d + 2))   (l1 : Int) (l2 : Int) (l4 : Int) (l5 : Int) (l6 : Int) (l7 : Int) (hl1 : R32 l1) (hl2 : R32 l2) (hl4 : R32 l4) (hl5 : R32 l5) (hl6 : R32 l6) (hl7 : R32 l7) : Sx Γ (fun t => (h, t)) (fun a s => mt Γ = (0, a, ((h, s) : Wd))) 109 [(0, vA (mg Γ) 21), (1, vI l1), (2, vI l2), (4, vI l4), (5, vI l5), (6, vI l6), (7, vI l7)] [] (t_call_109 l1 l2 l4 l5 l6 l7) := by
  unfold t_call_109
  refine s_aload_n o dX11_call_109 rfl 0 rfl ?_
  refine s_iload_n o dX11_call_110 rfl 1 rfl ?_
  refine s_cv (d := d + 1) (C := "LazyForgeModel") (As := [vI l1]) (st := []) o (st_frame (mg Γ) d h hT l1 hl1) mw_X11_frame rfl (Or.inl (lw_all_tbl q3268)) (lw_all_tbl qs131) (lw_all_tbl q3270) (fun t => rc_t o hT t) wt_0 rfl dX11_call_111 rfl (rs := fun _ => []) (fun _ => rfl) (fun _ _ => ?_)
  refine s_iconst o dX11_call_114 ?_
  refine r_istore o dX11_call_115 rfl ⟨(Nat.ne_of_beq_eq_false rfl), (fun _ => (vA_cat (mg Γ) 21)), ⟨(Nat.ne_of_beq_eq_false rfl), (fun _ => rfl), ⟨(Nat.ne_of_beq_eq_false rfl), (fun _ => rfl), ⟨(Nat.ne_of_beq_eq_false rfl), (fun _ => rfl), ⟨(Nat.ne_of_beq_eq_false rfl), (fun _ => rfl), ⟨(Nat.ne_of_beq_eq_false rfl), (fun _ => rfl), ⟨(Nat.ne_of_beq_eq_false rfl), (fun _ => rfl), trivial⟩⟩⟩⟩⟩⟩⟩ ?_
  refine r_to [(0, vA (mg Γ) 21), (1, vI l1), (2, vI l2), (4, vI l4), (5, vI l5), (6, vI l6), (7, vI l7), (8, vI 0)] [1, 2, 3, 4, 5, 6, 7, 0] rfl ?_
  refine st_call_117 hT o _ ?_ l1 l2 l4 l5 l6 l7 0 hl1 hl2 hl4 hl5 hl6 hl7 (r32 rfl)
  · intro v1 v2 v3 v4 v5 hv1 hv2 hv3 hv4 hv5
    refine s_iconst o dX11_call_156 ?_
    refine r_istore o dX11_call_157 rfl ⟨(Nat.ne_of_beq_eq_false rfl), (fun _ => (vA_cat (mg Γ) 21)), ⟨(Nat.ne_of_beq_eq_false rfl), (fun _ => rfl), ⟨(Nat.ne_of_beq_eq_false rfl), (fun _ => rfl), ⟨(Nat.ne_of_beq_eq_false rfl), (fun _ => rfl), ⟨(Nat.ne_of_beq_eq_false rfl), (fun _ => rfl), ⟨(Nat.ne_of_beq_eq_false rfl), (fun _ => rfl), trivial⟩⟩⟩⟩⟩⟩ ?_
    refine r_to [(0, vA (mg Γ) 21), (1, vI v1), (4, vI v2), (5, vI v3), (6, vI v4), (7, vI v5), (8, vI 0)] [1, 2, 3, 4, 5, 6, 0] rfl ?_
    refine st_call_159 hT o _ ?_ v1 v2 v3 v4 v5 0 hv1 hv2 hv3 hv4 hv5 (r32 rfl)
    · intro v6 v7 v8 v9 hv6 hv7 hv8 hv9
      refine s_iconst o dX11_call_197 ?_
      refine r_istore o dX11_call_198 rfl ⟨(Nat.ne_of_beq_eq_false rfl), (fun _ => (vA_cat (mg Γ) 21)), ⟨(Nat.ne_of_beq_eq_false rfl), (fun _ => rfl), ⟨(Nat.ne_of_beq_eq_false rfl), (fun _ => rfl), ⟨(Nat.ne_of_beq_eq_false rfl), (fun _ => rfl), ⟨(Nat.ne_of_beq_eq_false rfl), (fun _ => rfl), trivial⟩⟩⟩⟩⟩ ?_
      refine r_to [(0, vA (mg Γ) 21), (1, vI v6), (5, vI v7), (6, vI v8), (7, vI v9), (8, vI 0)] [1, 2, 3, 4, 5, 0] rfl ?_
      refine st_call_200 hT o _ ?_ v6 v7 v8 v9 0 hv6 hv7 hv8 hv9 (r32 rfl)
      · intro v10 v11 v12 hv10 hv11 hv12
        refine s_aload_n o dX11_call_236 rfl 0 rfl ?_
        refine s_iload o dX11_call_237 3 rfl ?_
        refine s_iload o dX11_call_239 2 rfl ?_
        refine s_iadd o dX11_call_241 ?_
        refine r_tpf vI rfl o hT tf_top tj_top (lw_all_tbl q2624) dX11_call_242 (w32_R _) ty_int ?_
        refine s_aload_n o dX11_call_245 rfl 0 rfl ?_
        refine s_aload_n o dX11_call_246 rfl 0 rfl ?_
        refine s_tga (x := 73) o hT tf_roots ta_roots (lw_all_tbl q2584) dX11_call_247 ?_
        refine s_iload_n o dX11_call_250 rfl 1 rfl ?_
        refine r_tiald o hT tr_roots hv10 dX11_call_251 (fun v13 hv13 => ?_)
        refine s_cv (d := d + 1) (C := "LazyForgeModel") (As := [vI v13]) (st := []) o (st_evaluate (mg Γ) (d + 1) h hT v13 hv13) mw_X11_evaluate rfl (Or.inl (lw_all_tbl q3272)) (lw_all_tbl qs132) (lw_all_tbl q3274) (fun t => rc_t o hT t) wt_0 rfl dX11_call_252 rfl (rs := fun _ => []) (fun _ => rfl) (fun _ _ => ?_)
        exact s_vret o rfl dX11_call_255 (fun _ hh => hh)
noncomputable def t_call_68  (l1 : Int) (l2 : Int) (l3 : Int) (k0 : Int) : Mo TS Int :=
  bnd (rd 82 640 l1) fun v1 =>
  bnd (gs 120) fun v2 =>
  if (w32 (l3 - (w32 (v1 - k0)))) ≤ 0 then
    t_call_109 l1 l2 k0 (w32 (v1 - k0)) (w32 (l3 - (w32 (v1 - k0)))) (w32 (v2 - l3))
  else
    bnd (t_waits 7 0 (w32 (l3 - (w32 (v1 - k0))))) fun _ =>
    t_call_109 l1 l2 k0 (w32 (v1 - k0)) (w32 (l3 - (w32 (v1 - k0)))) (w32 (v2 - l3))
theorem st_call_68 {Γ : Gm} {h : CH} {d : Nat} (hT : HT h) (o : Ok Γ "LazyForgeModel" cX11_call 9 (Option.none : Option Jvm.ClassFile.FieldType) (d + 2))   (l1 : Int) (l2 : Int) (l3 : Int) (k0 : Int) (hl1 : R32 l1) (hl2 : R32 l2) (hl3 : R32 l3) (hk0 : R32 k0) : Sx Γ (fun t => (h, t)) (fun a s => mt Γ = (0, a, ((h, s) : Wd))) 68 [(0, vA (mg Γ) 21), (1, vI l1), (2, vI l2), (3, vI l3)] [vI k0] (t_call_68 l1 l2 l3 k0) := by
  unfold t_call_68
  refine r_istore o dX11_call_68 rfl ⟨(Nat.ne_of_beq_eq_false rfl), (fun _ => (vA_cat (mg Γ) 21)), ⟨(Nat.ne_of_beq_eq_false rfl), (fun _ => rfl), ⟨(Nat.ne_of_beq_eq_false rfl), (fun _ => rfl), ⟨(Nat.ne_of_beq_eq_false rfl), (fun _ => rfl), trivial⟩⟩⟩⟩ ?_
  refine s_aload_n o dX11_call_70 rfl 1 rfl ?_
  refine s_tga (x := 75) o hT tf_parameterCounts ta_parameterCounts (lw_all_tbl q2586) dX11_call_71 ?_
  refine s_iload_n o dX11_call_74 rfl 2 rfl ?_
  refine r_tiald o hT tr_parameterCounts hl1 dX11_call_75 (fun v1 hv1 => ?_)
  refine s_iload o dX11_call_76 0 rfl ?_
  refine s_isub o dX11_call_78 ?_
  refine r_istore o dX11_call_79 rfl ⟨(Nat.ne_of_beq_eq_false rfl), (fun _ => rfl), ⟨(Nat.ne_of_beq_eq_false rfl), (fun _ => (vA_cat (mg Γ) 21)), ⟨(Nat.ne_of_beq_eq_false rfl), (fun _ => rfl), ⟨(Nat.ne_of_beq_eq_false rfl), (fun _ => rfl), ⟨(Nat.ne_of_beq_eq_false rfl), (fun _ => rfl), trivial⟩⟩⟩⟩⟩ ?_
  refine s_iload_n o dX11_call_81 rfl 5 rfl ?_
  refine s_iload o dX11_call_82 0 rfl ?_
  refine s_isub o dX11_call_84 ?_
  refine r_istore o dX11_call_85 rfl ⟨(Nat.ne_of_beq_eq_false rfl), (fun _ => rfl), ⟨(Nat.ne_of_beq_eq_false rfl), (fun _ => rfl), ⟨(Nat.ne_of_beq_eq_false rfl), (fun _ => (vA_cat (mg Γ) 21)), ⟨(Nat.ne_of_beq_eq_false rfl), (fun _ => rfl), ⟨(Nat.ne_of_beq_eq_false rfl), (fun _ => rfl), ⟨(Nat.ne_of_beq_eq_false rfl), (fun _ => rfl), trivial⟩⟩⟩⟩⟩⟩ ?_
  refine s_aload_n o dX11_call_87 rfl 3 rfl ?_
  refine r_tgf vI rfl o hT tf_top tj_top (lw_all_tbl q2624) dX11_call_88 (fun v2 hv2 => ?_)
  refine s_iload_n o dX11_call_91 rfl 6 rfl ?_
  refine s_isub o dX11_call_92 ?_
  refine r_istore o dX11_call_93 rfl ⟨(Nat.ne_of_beq_eq_false rfl), (fun _ => rfl), ⟨(Nat.ne_of_beq_eq_false rfl), (fun _ => rfl), ⟨(Nat.ne_of_beq_eq_false rfl), (fun _ => rfl), ⟨(Nat.ne_of_beq_eq_false rfl), (fun _ => (vA_cat (mg Γ) 21)), ⟨(Nat.ne_of_beq_eq_false rfl), (fun _ => rfl), ⟨(Nat.ne_of_beq_eq_false rfl), (fun _ => rfl), ⟨(Nat.ne_of_beq_eq_false rfl), (fun _ => rfl), trivial⟩⟩⟩⟩⟩⟩⟩ ?_
  refine s_iload o dX11_call_95 1 rfl ?_
  refine s_if_le (tgt := 109) o dX11_call_97 (by decide) (w32_R _) ?_ ?_
  · refine r_to [(0, vA (mg Γ) 21), (1, vI l1), (2, vI l2), (4, vI k0), (5, vI (w32 (v1 - k0))), (6, vI (w32 (l3 - (w32 (v1 - k0))))), (7, vI (w32 (v2 - l3)))] [4, 5, 6, 3, 2, 1, 0] rfl ?_
    exact st_call_109 hT o l1 l2 k0 (w32 (v1 - k0)) (w32 (l3 - (w32 (v1 - k0)))) (w32 (v2 - l3)) hl1 hl2 hk0 (w32_R _) (w32_R _) (w32_R _)
  · refine s_aload_n o dX11_call_100 rfl 4 rfl ?_
    refine s_bipush o dX11_call_101 rfl ?_
    refine s_iconst o dX11_call_103 ?_
    refine s_iload o dX11_call_104 1 rfl ?_
    refine s_cv (d := d + 1) (C := "LazyForgeModel") (As := [vI 7, vI 0, vI (w32 (l3 - (w32 (v1 - k0))))]) (st := []) o (st_waits (mg Γ) (d + 1) h hT 7 0 (w32 (l3 - (w32 (v1 - k0)))) (r32 rfl) (r32 rfl) (w32_R _)) mw_X11_waits rfl (Or.inl (lw_all_tbl q3264)) (lw_all_tbl qs130) (lw_all_tbl q3266) (fun t => rc_t o hT t) wt_0 rfl dX11_call_106 rfl (rs := fun _ => []) (fun _ => rfl) (fun _ _ => ?_)
    refine r_to [(0, vA (mg Γ) 21), (1, vI l1), (2, vI l2), (4, vI k0), (5, vI (w32 (v1 - k0))), (6, vI (w32 (l3 - (w32 (v1 - k0))))), (7, vI (w32 (v2 - l3)))] [4, 5, 6, 3, 2, 1, 0] rfl ?_
    exact st_call_109 hT o l1 l2 k0 (w32 (v1 - k0)) (w32 (l3 - (w32 (v1 - k0)))) (w32 (v2 - l3)) hl1 hl2 hk0 (w32_R _) (w32_R _) (w32_R _)
noncomputable def t_call (l1 : Int) (l2 : Int) (l3 : Int) : Mo TS Int :=
  bnd (gs 103) fun v1 =>
  if ¬ v1 = 0 then
    bnd (gs 103) fun v2 =>
    bnd (ss 103 (w32 (v2 - 1))) fun _ =>
    bnd (gs 104) fun v3 =>
    bnd (ss 104 (w32 (v3 + 1))) fun _ =>
    bnd (gs 102) fun v4 =>
    bnd (ss 102 (w32 (v4 + 1))) fun _ =>
    bnd (rd 110 640 l1) fun v5 =>
    bnd (wr 110 640 l1 (w32 (v5 + 1))) fun _ =>
    if 0 ≤ l2 then
      bnd (rd 96 4100 l2) fun v6 =>
      t_call_68 l1 l2 l3 v6
    else
      t_call_68 l1 l2 l3 0
  else
    bnd (t_ends 3 1) fun _ =>
    pr 0
theorem st_call (g : gC) (d : Nat) (h : CH) (hT : HT h) (l1 : Int) (l2 : Int) (l3 : Int) (hl1 : R32 l1) (hl2 : R32 l2) (hl3 : R32 l3) : SF g yX11_call (Cond.code yX11_call cX11_call 9 (Option.none : Option Jvm.ClassFile.FieldType)) (Option.none : Option Jvm.ClassFile.FieldType) (d + 2) [vA g 21, vI l1, vI l2, vI l3] (fun t => (h, t)) (t_call l1 l2 l3) := by
  refine SF.of (lv := [(0, vA g 21), (1, vI l1), (2, vI l2), (3, vI l3)]) (by decide) (wt_A (wt_I (wt_I (wt_I wt_0)))) rfl (by simp only [la_A, la_I, la_J, la_0]) (fun Γ hg hnm o => ?_)
  subst hg
  have o : Ok Γ "LazyForgeModel" cX11_call 9 (Option.none : Option Jvm.ClassFile.FieldType) (d + 2) := o
  unfold t_call
  refine s_aload_n o dX11_call_0 rfl 0 rfl ?_
  refine r_tgf vI rfl o hT tf_callsLeft tj_callsLeft (lw_all_tbl q2607) dX11_call_1 (fun v1 hv1 => ?_)
  refine s_if_ne (tgt := 14) o dX11_call_4 (by decide) hv1 ?_ ?_
  · refine s_aload_n o dX11_call_14 rfl 0 rfl ?_
    refine s_dup o dX11_call_15 (vA_cat (mg Γ) 21) ?_
    refine r_tgf vI rfl o hT tf_callsLeft tj_callsLeft (lw_all_tbl q2607) dX11_call_16 (fun v2 hv2 => ?_)
    refine s_iconst o dX11_call_19 ?_
    refine s_isub o dX11_call_20 ?_
    refine r_tpf vI rfl o hT tf_callsLeft tj_callsLeft (lw_all_tbl q2607) dX11_call_21 (w32_R _) ty_int ?_
    refine s_aload_n o dX11_call_24 rfl 0 rfl ?_
    refine s_dup o dX11_call_25 (vA_cat (mg Γ) 21) ?_
    refine r_tgf vI rfl o hT tf_calls tj_calls (lw_all_tbl q2608) dX11_call_26 (fun v3 hv3 => ?_)
    refine s_iconst o dX11_call_29 ?_
    refine s_iadd o dX11_call_30 ?_
    refine r_tpf vI rfl o hT tf_calls tj_calls (lw_all_tbl q2608) dX11_call_31 (w32_R _) ty_int ?_
    refine s_aload_n o dX11_call_34 rfl 0 rfl ?_
    refine s_dup o dX11_call_35 (vA_cat (mg Γ) 21) ?_
    refine r_tgf vI rfl o hT tf_allCalls tj_allCalls (lw_all_tbl q2606) dX11_call_36 (fun v4 hv4 => ?_)
    refine s_iconst o dX11_call_39 ?_
    refine s_iadd o dX11_call_40 ?_
    refine r_tpf vI rfl o hT tf_allCalls tj_allCalls (lw_all_tbl q2606) dX11_call_41 (w32_R _) ty_int ?_
    refine s_aload_n o dX11_call_44 rfl 0 rfl ?_
    refine s_tga (x := 87) o hT tf_calledCounts ta_calledCounts (lw_all_tbl q2614) dX11_call_45 ?_
    refine s_iload_n o dX11_call_48 rfl 1 rfl ?_
    refine s_dup2 o dX11_call_49 rfl (vA_cat (mg Γ) 87) ?_
    refine r_tiald o hT tr_calledCounts hl1 dX11_call_50 (fun v5 hv5 => ?_)
    refine s_iconst o dX11_call_51 ?_
    refine s_iadd o dX11_call_52 ?_
    refine r_tiast o hT tr_calledCounts hl1 (w32_R _) dX11_call_53 ?_
    refine s_iload_n o dX11_call_54 rfl 2 rfl ?_
    refine s_if_ge (tgt := 62) o dX11_call_55 (by decide) hl2 ?_ ?_
    · refine s_aload_n o dX11_call_62 rfl 0 rfl ?_
      refine s_tga (x := 85) o hT tf_cellCounts ta_cellCounts (lw_all_tbl q2600) dX11_call_63 ?_
      refine s_iload_n o dX11_call_66 rfl 2 rfl ?_
      refine r_tiald o hT tr_cellCounts hl2 dX11_call_67 (fun v6 hv6 => ?_)
      exact st_call_68 hT o l1 l2 l3 v6 hl1 hl2 hl3 hv6
    · refine s_iconst o dX11_call_58 ?_
      refine s_goto (tgt := 68) o dX11_call_59 (by decide) ?_
      exact st_call_68 hT o l1 l2 l3 0 hl1 hl2 hl3 (r32 rfl)
  · refine s_aload_n o dX11_call_7 rfl 0 rfl ?_
    refine s_iconst o dX11_call_8 ?_
    refine s_iconst o dX11_call_9 ?_
    refine s_cv (d := d + 1) (C := "LazyForgeModel") (As := [vI 3, vI 1]) (st := []) o (st_ends (mg Γ) (d + 1) h hT 3 1 (r32 rfl) (r32 rfl)) mw_X11_ends rfl (Or.inl (lw_all_tbl q3238)) (lw_all_tbl qs126) (lw_all_tbl q3240) (fun t => rc_t o hT t) wt_0 rfl dX11_call_10 rfl (rs := fun _ => []) (fun _ => rfl) (fun _ _ => ?_)
    exact s_vret o rfl dX11_call_13 (fun _ hh => hh)
theorem dX11_force_0 : decode cX11_force 0 = .ok (.lload_n 1, 1) := by decide +kernel
theorem dX11_force_1 : decode cX11_force 1 = .ok (.invokestatic 688, 3) := by decide +kernel
theorem dX11_force_4 : decode cX11_force 4 = .ok (.iconst 3, 1) := by decide +kernel
theorem dX11_force_5 : decode cX11_force 5 = .ok (.if_icmp .ne 19, 3) := by decide +kernel
theorem dX11_force_8 : decode cX11_force 8 = .ok (.aload_n 0, 1) := by decide +kernel
theorem dX11_force_9 : decode cX11_force 9 = .ok (.getfield 194, 3) := by decide +kernel
theorem dX11_force_12 : decode cX11_force 12 = .ok (.lload_n 1, 1) := by decide +kernel
theorem dX11_force_13 : decode cX11_force 13 = .ok (.invokestatic 679, 3) := by decide +kernel
theorem dX11_force_16 : decode cX11_force 16 = .ok (.iaload, 1) := by decide +kernel
theorem dX11_force_17 : decode cX11_force 17 = .ok (.ifCond .ne 7, 3) := by decide +kernel
theorem dX11_force_20 : decode cX11_force 20 = .ok (.iconst 1, 1) := by decide +kernel
theorem dX11_force_21 : decode cX11_force 21 = .ok (.goto 4, 3) := by decide +kernel
theorem dX11_force_24 : decode cX11_force 24 = .ok (.iconst 0, 1) := by decide +kernel
theorem dX11_force_25 : decode cX11_force 25 = .ok (.istore_n 3, 1) := by decide +kernel
theorem dX11_force_26 : decode cX11_force 26 = .ok (.lload_n 1, 1) := by decide +kernel
theorem dX11_force_27 : decode cX11_force 27 = .ok (.invokestatic 688, 3) := by decide +kernel
theorem dX11_force_30 : decode cX11_force 30 = .ok (.ifCond .ne 17, 3) := by decide +kernel
theorem dX11_force_33 : decode cX11_force 33 = .ok (.aload_n 0, 1) := by decide +kernel
theorem dX11_force_34 : decode cX11_force 34 = .ok (.iconst 1, 1) := by decide +kernel
theorem dX11_force_35 : decode cX11_force 35 = .ok (.lload_n 1, 1) := by decide +kernel
theorem dX11_force_36 : decode cX11_force 36 = .ok (.invokestatic 679, 3) := by decide +kernel
theorem dX11_force_39 : decode cX11_force 39 = .ok (.iconst 2, 1) := by decide +kernel
theorem dX11_force_40 : decode cX11_force 40 = .ok (.invokevirtual 763, 3) := by decide +kernel
theorem dX11_force_43 : decode cX11_force 43 = .ok (.pop, 1) := by decide +kernel
theorem dX11_force_44 : decode cX11_force 44 = .ok (.goto 118, 3) := by decide +kernel
theorem dX11_force_47 : decode cX11_force 47 = .ok (.lload_n 1, 1) := by decide +kernel
theorem dX11_force_48 : decode cX11_force 48 = .ok (.invokestatic 688, 3) := by decide +kernel
theorem dX11_force_51 : decode cX11_force 51 = .ok (.iconst 2, 1) := by decide +kernel
theorem dX11_force_52 : decode cX11_force 52 = .ok (.if_icmp .ne 17, 3) := by decide +kernel
theorem dX11_force_55 : decode cX11_force 55 = .ok (.aload_n 0, 1) := by decide +kernel
theorem dX11_force_56 : decode cX11_force 56 = .ok (.iconst 2, 1) := by decide +kernel
theorem dX11_force_57 : decode cX11_force 57 = .ok (.lload_n 1, 1) := by decide +kernel
theorem dX11_force_58 : decode cX11_force 58 = .ok (.invokestatic 679, 3) := by decide +kernel
theorem dX11_force_61 : decode cX11_force 61 = .ok (.iconst 2, 1) := by decide +kernel
theorem dX11_force_62 : decode cX11_force 62 = .ok (.invokevirtual 763, 3) := by decide +kernel
theorem dX11_force_65 : decode cX11_force 65 = .ok (.pop, 1) := by decide +kernel
theorem dX11_force_66 : decode cX11_force 66 = .ok (.goto 96, 3) := by decide +kernel
theorem dX11_force_69 : decode cX11_force 69 = .ok (.iload_n 3, 1) := by decide +kernel
theorem dX11_force_70 : decode cX11_force 70 = .ok (.ifCond .ne 14, 3) := by decide +kernel
theorem dX11_force_73 : decode cX11_force 73 = .ok (.aload_n 0, 1) := by decide +kernel
theorem dX11_force_74 : decode cX11_force 74 = .ok (.iconst 3, 1) := by decide +kernel
theorem dX11_force_75 : decode cX11_force 75 = .ok (.iconst 0, 1) := by decide +kernel
theorem dX11_force_76 : decode cX11_force 76 = .ok (.iconst 1, 1) := by decide +kernel
theorem dX11_force_77 : decode cX11_force 77 = .ok (.invokevirtual 763, 3) := by decide +kernel
theorem dX11_force_80 : decode cX11_force 80 = .ok (.pop, 1) := by decide +kernel
theorem dX11_force_81 : decode cX11_force 81 = .ok (.goto 81, 3) := by decide +kernel
theorem dX11_force_84 : decode cX11_force 84 = .ok (.aload_n 0, 1) := by decide +kernel
theorem dX11_force_85 : decode cX11_force 85 = .ok (.iconst 2, 1) := by decide +kernel
theorem dX11_force_86 : decode cX11_force 86 = .ok (.aload_n 0, 1) := by decide +kernel
theorem dX11_force_87 : decode cX11_force 87 = .ok (.getfield 197, 3) := by decide +kernel
theorem dX11_force_90 : decode cX11_force 90 = .ok (.lload_n 1, 1) := by decide +kernel
theorem dX11_force_91 : decode cX11_force 91 = .ok (.invokestatic 679, 3) := by decide +kernel
theorem dX11_force_94 : decode cX11_force 94 = .ok (.iaload, 1) := by decide +kernel
theorem dX11_force_95 : decode cX11_force 95 = .ok (.iconst 2, 1) := by decide +kernel
theorem dX11_force_96 : decode cX11_force 96 = .ok (.invokevirtual 763, 3) := by decide +kernel
theorem dX11_force_99 : decode cX11_force 99 = .ok (.ifCond .eq 63, 3) := by decide +kernel
theorem dX11_force_102 : decode cX11_force 102 = .ok (.aload_n 0, 1) := by decide +kernel
theorem dX11_force_103 : decode cX11_force 103 = .ok (.getfield 206, 3) := by decide +kernel
theorem dX11_force_106 : decode cX11_force 106 = .ok (.lload_n 1, 1) := by decide +kernel
theorem dX11_force_107 : decode cX11_force 107 = .ok (.invokestatic 679, 3) := by decide +kernel
theorem dX11_force_110 : decode cX11_force 110 = .ok (.iaload, 1) := by decide +kernel
theorem dX11_force_111 : decode cX11_force 111 = .ok (.iconst 1, 1) := by decide +kernel
theorem dX11_force_112 : decode cX11_force 112 = .ok (.isub, 1) := by decide +kernel
theorem dX11_force_113 : decode cX11_force 113 = .ok (.istore 4, 2) := by decide +kernel
theorem dX11_force_115 : decode cX11_force 115 = .ok (.iload 4, 2) := by decide +kernel
theorem dX11_force_117 : decode cX11_force 117 = .ok (.ifCond .lt 45, 3) := by decide +kernel
theorem dX11_force_120 : decode cX11_force 120 = .ok (.aload_n 0, 1) := by decide +kernel
theorem dX11_force_121 : decode cX11_force 121 = .ok (.getfield 245, 3) := by decide +kernel
theorem dX11_force_124 : decode cX11_force 124 = .ok (.aload_n 0, 1) := by decide +kernel
theorem dX11_force_125 : decode cX11_force 125 = .ok (.getfield 767, 3) := by decide +kernel
theorem dX11_force_128 : decode cX11_force 128 = .ok (.aload_n 0, 1) := by decide +kernel
theorem dX11_force_129 : decode cX11_force 129 = .ok (.getfield 209, 3) := by decide +kernel
theorem dX11_force_132 : decode cX11_force 132 = .ok (.aload_n 0, 1) := by decide +kernel
theorem dX11_force_133 : decode cX11_force 133 = .ok (.getfield 203, 3) := by decide +kernel
theorem dX11_force_136 : decode cX11_force 136 = .ok (.lload_n 1, 1) := by decide +kernel
theorem dX11_force_137 : decode cX11_force 137 = .ok (.invokestatic 679, 3) := by decide +kernel
theorem dX11_force_140 : decode cX11_force 140 = .ok (.iaload, 1) := by decide +kernel
theorem dX11_force_141 : decode cX11_force 141 = .ok (.iload 4, 2) := by decide +kernel
theorem dX11_force_143 : decode cX11_force 143 = .ok (.iadd, 1) := by decide +kernel
theorem dX11_force_144 : decode cX11_force 144 = .ok (.laload, 1) := by decide +kernel
theorem dX11_force_145 : decode cX11_force 145 = .ok (.lastore, 1) := by decide +kernel
theorem dX11_force_146 : decode cX11_force 146 = .ok (.aload_n 0, 1) := by decide +kernel
theorem dX11_force_147 : decode cX11_force 147 = .ok (.dup, 1) := by decide +kernel
theorem dX11_force_148 : decode cX11_force 148 = .ok (.getfield 767, 3) := by decide +kernel
theorem dX11_force_151 : decode cX11_force 151 = .ok (.iconst 1, 1) := by decide +kernel
theorem dX11_force_152 : decode cX11_force 152 = .ok (.iadd, 1) := by decide +kernel
theorem dX11_force_153 : decode cX11_force 153 = .ok (.putfield 767, 3) := by decide +kernel
theorem dX11_force_156 : decode cX11_force 156 = .ok (.iinc 4 (-1), 3) := by decide +kernel
theorem dX11_force_159 : decode cX11_force 159 = .ok (.goto (-44), 3) := by decide +kernel
theorem dX11_force_162 : decode cX11_force 162 = .ok (.return_, 1) := by decide +kernel
theorem mw_X11_force : MW yX11_force (Cond.code yX11_force cX11_force 5 (Option.none : Option Jvm.ClassFile.FieldType)) cX11_force 5 (Option.none : Option Jvm.ClassFile.FieldType) 1 := ⟨rfl, ⟨(lw_all_tbl q3347), rfl, (lw_all_tbl q173)⟩, rfl, ⟨by decide, by decide⟩, by decide +kernel⟩
abbrev okt_force_115 (x : Int × Int) : Prop := R64 x.1 ∧ R32 x.2
abbrev lvt_force_115 (Γ : Gm) (x : Int × Int) : List (Nat × Value) := [(0, vA (mg Γ) 21), (1, vJ x.1), (4, vI x.2)]
noncomputable def t_force_115b {A : Type} (k_162 : Mo TS A) (l1 : Int) (l4 : Int) : Mo TS ((Int × Int) ⊕ A) :=
  if l4 < 0 then
    lo k_162
  else
    bnd (gs 132) fun v1 =>
    bnd (t_of l1) fun v2 =>
    bnd (rd 95 4100 v2) fun v3 =>
    bnd (rd 99 4100 (w32 (v3 + l4))) fun v4 =>
    bnd (wr 133 4200 v1 v4) fun _ =>
    bnd (gs 132) fun v5 =>
    bnd (ss 132 (w32 (v5 + 1))) fun _ =>
    pr (.inl (l1, (w32 (l4 + (-1)))))
theorem st_force_115b {Γ : Gm} {h : CH} {d : Nat} (hT : HT h) (o : Ok Γ "LazyForgeModel" cX11_force 5 (Option.none : Option Jvm.ClassFile.FieldType) (d + 2)) {A : Type} {K : A → TS → Prop} (k_162 : Mo TS A) (hk_162 : Sx Γ (fun t => (h, t)) K 162 [] [] (k_162)) (l1 : Int) (l4 : Int) (hl1 : R64 l1) (hl4 : R32 l4) : Sx Γ (fun t => (h, t)) (KL Γ (fun t => (h, t)) okt_force_115 K 115 (lvt_force_115 Γ) []) 115 [(0, vA (mg Γ) 21), (1, vJ l1), (4, vI l4)] [] (t_force_115b k_162 l1 l4) := by
  unfold t_force_115b
  refine s_iload o dX11_force_115 2 rfl ?_
  refine s_if_lt (tgt := 162) o dX11_force_117 (by decide) hl4 ?_ ?_
  · refine r_to [] [] rfl ?_
    exact s_lo hk_162
  · refine s_aload_n o dX11_force_120 rfl 0 rfl ?_
    refine s_tga (x := 97) o hT tf_pendings ta_pendings (lw_all_tbl q2637) dX11_force_121 ?_
    refine s_aload_n o dX11_force_124 rfl 0 rfl ?_
    refine r_tgf vI rfl o hT tf_pending tj_pending (lw_all_tbl q2636) dX11_force_125 (fun v1 hv1 => ?_)
    refine s_aload_n o dX11_force_128 rfl 0 rfl ?_
    refine s_tga (x := 86) o hT tf_fields ta_fields (lw_all_tbl q2603) dX11_force_129 ?_
    refine s_aload_n o dX11_force_132 rfl 0 rfl ?_
    refine s_tga (x := 84) o hT tf_cellBegins ta_cellBegins (lw_all_tbl q2599) dX11_force_133 ?_
    refine s_lload_n o dX11_force_136 rfl 1 rfl ?_
    refine s_cs (d := d + 1) (As := [vJ l1]) (st := [vA (mg Γ) 84, vA (mg Γ) 86, vI v1, vA (mg Γ) 97]) o (st_of (mg Γ) (d + 1) h l1 hl1) mw_X11_of rfl (Or.inl (lw_all_tbl q3261)) (lw_all_tbl q3262) (wt_A (wt_A (wt_I (wt_A wt_0)))) rfl dX11_force_137 rfl (rs := fun r => [vI r, vA (mg Γ) 84, vA (mg Γ) 86, vI v1, vA (mg Γ) 97]) (fun _ => rfl) (fun v2 hv2 => ?_)
    refine r_tiald o hT tr_cellBegins (hv2 _ rfl) dX11_force_140 (fun v3 hv3 => ?_)
    refine s_iload o dX11_force_141 2 rfl ?_
    refine s_iadd o dX11_force_143 ?_
    refine r_tlald o hT tr_fields (w32_R _) dX11_force_144 (fun v4 hv4 => ?_)
    refine r_tlast o hT tr_pendings hv1 hv4 dX11_force_145 ?_
    refine s_aload_n o dX11_force_146 rfl 0 rfl ?_
    refine s_dup o dX11_force_147 (vA_cat (mg Γ) 21) ?_
    refine r_tgf vI rfl o hT tf_pending tj_pending (lw_all_tbl q2636) dX11_force_148 (fun v5 hv5 => ?_)
    refine s_iconst o dX11_force_151 ?_
    refine s_iadd o dX11_force_152 ?_
    refine r_tpf vI rfl o hT tf_pending tj_pending (lw_all_tbl q2636) dX11_force_153 (w32_R _) ty_int ?_
    refine r_iinc (j := 2) o dX11_force_156 rfl rfl [(0, vA (mg Γ) 21), (1, vJ l1)] [0, 1] rfl ⟨(Nat.ne_of_beq_eq_false rfl), (fun _ => (vA_cat (mg Γ) 21)), ⟨(Nat.ne_of_beq_eq_false rfl), (fun e => absurd e (Nat.ne_of_beq_eq_false rfl)), trivial⟩⟩ ?_
    refine s_goto (tgt := 115) o dX11_force_159 (by decide) ?_
    refine r_to [(0, vA (mg Γ) 21), (1, vJ l1), (4, vI (w32 (l4 + (-1))))] [1, 2, 0] rfl ?_
    exact s_back (⟨hl1, (w32_R _)⟩) rfl
noncomputable def t_force_115 {A : Type} (k_162 : Mo TS A) (l1 : Int) (l4 : Int) : Mo TS A := Loop (fun x => t_force_115b k_162 x.1 x.2) (l1, l4)
theorem st_force_115 {Γ : Gm} {h : CH} {d : Nat} (hT : HT h) (o : Ok Γ "LazyForgeModel" cX11_force 5 (Option.none : Option Jvm.ClassFile.FieldType) (d + 2)) {A : Type} {K : A → TS → Prop} (k_162 : Mo TS A) (hk_162 : Sx Γ (fun t => (h, t)) K 162 [] [] (k_162)) (l1 : Int) (l4 : Int) (hl1 : R64 l1) (hl4 : R32 l4) : Sx Γ (fun t => (h, t)) K 115 [(0, vA (mg Γ) 21), (1, vJ l1), (4, vI l4)] [] (t_force_115 k_162 l1 l4) :=
  s_loop okt_force_115 (lvt_force_115 Γ) (fun x hx => st_force_115b hT o k_162 hk_162 x.1 x.2 hx.1 hx.2) (x := (l1, l4)) ⟨hl1, hl4⟩
noncomputable def t_force_25  (l1 : Int) (k0 : Int) : Mo TS Int :=
  bnd (t_kindOf l1) fun v1 =>
  if ¬ v1 = 0 then
    bnd (t_kindOf l1) fun v2 =>
    if ¬ v2 = 2 then
      if ¬ k0 = 0 then
        bnd (t_of l1) fun v3 =>
        bnd (rd 93 4100 v3) fun v4 =>
        bnd (t_putRow 2 v4 2) fun v5 =>
        if v5 = 0 then
          pr 0
        else
          bnd (t_of l1) fun v6 =>
          bnd (rd 96 4100 v6) fun v7 =>
          t_force_115
            (pr 0) l1 (w32 (v7 - 1))
      else
        bnd (t_putRow 3 0 1) fun v8 =>
        pr 0
    else
      bnd (t_of l1) fun v9 =>
      bnd (t_putRow 2 v9 2) fun v10 =>
      pr 0
  else
    bnd (t_of l1) fun v11 =>
    bnd (t_putRow 1 v11 2) fun v12 =>
    pr 0
theorem st_force_25 {Γ : Gm} {h : CH} {d : Nat} (hT : HT h) (o : Ok Γ "LazyForgeModel" cX11_force 5 (Option.none : Option Jvm.ClassFile.FieldType) (d + 2))   (l1 : Int) (k0 : Int) (hl1 : R64 l1) (hk0 : rg .boolean k0) : Sx Γ (fun t => (h, t)) (fun a s => mt Γ = (0, a, ((h, s) : Wd))) 25 [(0, vA (mg Γ) 21), (1, vJ l1)] [vI k0] (t_force_25 l1 k0) := by
  unfold t_force_25
  refine r_istore_n o dX11_force_25 rfl rfl ⟨(Nat.ne_of_beq_eq_false rfl), (fun _ => (vA_cat (mg Γ) 21)), ⟨(Nat.ne_of_beq_eq_false rfl), (fun e => absurd e (Nat.ne_of_beq_eq_false rfl)), trivial⟩⟩ ?_
  refine s_lload_n o dX11_force_26 rfl 2 rfl ?_
  refine s_cs (d := d + 1) (As := [vJ l1]) (st := []) o (st_kindOf (mg Γ) (d + 1) h l1 hl1) mw_X11_kindOf rfl (Or.inl (lw_all_tbl q3254)) (lw_all_tbl q3255) wt_0 rfl dX11_force_27 rfl (rs := fun r => [vI r]) (fun _ => rfl) (fun v1 hv1 => ?_)
  refine s_if_ne (tgt := 47) o dX11_force_30 (by decide) (hv1 _ rfl) ?_ ?_
  · refine s_lload_n o dX11_force_47 rfl 2 rfl ?_
    refine s_cs (d := d + 1) (As := [vJ l1]) (st := []) o (st_kindOf (mg Γ) (d + 1) h l1 hl1) mw_X11_kindOf rfl (Or.inl (lw_all_tbl q3254)) (lw_all_tbl q3255) wt_0 rfl dX11_force_48 rfl (rs := fun r => [vI r]) (fun _ => rfl) (fun v2 hv2 => ?_)
    refine s_iconst o dX11_force_51 ?_
    refine s_icmp_ne (tgt := 69) o dX11_force_52 (by decide) (hv2 _ rfl) (r32 rfl) ?_ ?_
    · refine s_iload_n o dX11_force_69 rfl 0 rfl ?_
      refine s_if_ne (tgt := 84) o dX11_force_70 (by decide) (rZ hk0) ?_ ?_
      · refine s_aload_n o dX11_force_84 rfl 1 rfl ?_
        refine s_iconst o dX11_force_85 ?_
        refine s_aload_n o dX11_force_86 rfl 1 rfl ?_
        refine s_tga (x := 82) o hT tf_cellValues ta_cellValues (lw_all_tbl q2597) dX11_force_87 ?_
        refine s_lload_n o dX11_force_90 rfl 2 rfl ?_
        refine s_cs (d := d + 1) (As := [vJ l1]) (st := [vA (mg Γ) 82, vI 2, vA (mg Γ) 21]) o (st_of (mg Γ) (d + 1) h l1 hl1) mw_X11_of rfl (Or.inl (lw_all_tbl q3261)) (lw_all_tbl q3262) (wt_A (wt_I (wt_A wt_0))) rfl dX11_force_91 rfl (rs := fun r => [vI r, vA (mg Γ) 82, vI 2, vA (mg Γ) 21]) (fun _ => rfl) (fun v3 hv3 => ?_)
        refine r_tiald o hT tr_cellValues (hv3 _ rfl) dX11_force_94 (fun v4 hv4 => ?_)
        refine s_iconst o dX11_force_95 ?_
        refine s_cv (d := d + 1) (C := "LazyForgeModel") (As := [vI 2, vI v4, vI 2]) (st := []) o (st_putRow (mg Γ) d h hT 2 v4 2 (r32 rfl) hv4 (r32 rfl)) mw_X11_putRow rfl (Or.inl (lw_all_tbl q3348)) (lw_all_tbl qs150) (lw_all_tbl q3350) (fun t => rc_t o hT t) wt_0 rfl dX11_force_96 rfl (rs := fun r => [vI r]) (fun _ => rfl) (fun v5 hv5 => ?_)
        refine s_if_eq (tgt := 162) o dX11_force_99 (by decide) (rZ (hv5 _ rfl)) ?_ ?_
        · exact s_vret o rfl dX11_force_162 (fun _ hh => hh)
        · refine s_aload_n o dX11_force_102 rfl 1 rfl ?_
          refine s_tga (x := 85) o hT tf_cellCounts ta_cellCounts (lw_all_tbl q2600) dX11_force_103 ?_
          refine s_lload_n o dX11_force_106 rfl 2 rfl ?_
          refine s_cs (d := d + 1) (As := [vJ l1]) (st := [vA (mg Γ) 85]) o (st_of (mg Γ) (d + 1) h l1 hl1) mw_X11_of rfl (Or.inl (lw_all_tbl q3261)) (lw_all_tbl q3262) (wt_A wt_0) rfl dX11_force_107 rfl (rs := fun r => [vI r, vA (mg Γ) 85]) (fun _ => rfl) (fun v6 hv6 => ?_)
          refine r_tiald o hT tr_cellCounts (hv6 _ rfl) dX11_force_110 (fun v7 hv7 => ?_)
          refine s_iconst o dX11_force_111 ?_
          refine s_isub o dX11_force_112 ?_
          refine r_istore o dX11_force_113 rfl ⟨(Nat.ne_of_beq_eq_false rfl), (fun _ => rfl), ⟨(Nat.ne_of_beq_eq_false rfl), (fun _ => (vA_cat (mg Γ) 21)), ⟨(Nat.ne_of_beq_eq_false rfl), (fun e => absurd e (Nat.ne_of_beq_eq_false rfl)), trivial⟩⟩⟩ ?_
          refine r_to [(0, vA (mg Γ) 21), (1, vJ l1), (4, vI (w32 (v7 - 1)))] [2, 3, 0] rfl ?_
          refine st_force_115 hT o _ ?_ l1 (w32 (v7 - 1)) hl1 (w32_R _)
          · exact s_vret o rfl dX11_force_162 (fun _ hh => hh)
      · refine s_aload_n o dX11_force_73 rfl 1 rfl ?_
        refine s_iconst o dX11_force_74 ?_
        refine s_iconst o dX11_force_75 ?_
        refine s_iconst o dX11_force_76 ?_
        refine s_cv (d := d + 1) (C := "LazyForgeModel") (As := [vI 3, vI 0, vI 1]) (st := []) o (st_putRow (mg Γ) d h hT 3 0 1 (r32 rfl) (r32 rfl) (r32 rfl)) mw_X11_putRow rfl (Or.inl (lw_all_tbl q3348)) (lw_all_tbl qs150) (lw_all_tbl q3350) (fun t => rc_t o hT t) wt_0 rfl dX11_force_77 rfl (rs := fun r => [vI r]) (fun _ => rfl) (fun v8 hv8 => ?_)
        refine s_pop o dX11_force_80 rfl ?_
        refine s_goto (tgt := 162) o dX11_force_81 (by decide) ?_
        exact s_vret o rfl dX11_force_162 (fun _ hh => hh)
    · refine s_aload_n o dX11_force_55 rfl 1 rfl ?_
      refine s_iconst o dX11_force_56 ?_
      refine s_lload_n o dX11_force_57 rfl 2 rfl ?_
      refine s_cs (d := d + 1) (As := [vJ l1]) (st := [vI 2, vA (mg Γ) 21]) o (st_of (mg Γ) (d + 1) h l1 hl1) mw_X11_of rfl (Or.inl (lw_all_tbl q3261)) (lw_all_tbl q3262) (wt_I (wt_A wt_0)) rfl dX11_force_58 rfl (rs := fun r => [vI r, vI 2, vA (mg Γ) 21]) (fun _ => rfl) (fun v9 hv9 => ?_)
      refine s_iconst o dX11_force_61 ?_
      refine s_cv (d := d + 1) (C := "LazyForgeModel") (As := [vI 2, vI v9, vI 2]) (st := []) o (st_putRow (mg Γ) d h hT 2 v9 2 (r32 rfl) (hv9 _ rfl) (r32 rfl)) mw_X11_putRow rfl (Or.inl (lw_all_tbl q3348)) (lw_all_tbl qs150) (lw_all_tbl q3350) (fun t => rc_t o hT t) wt_0 rfl dX11_force_62 rfl (rs := fun r => [vI r]) (fun _ => rfl) (fun v10 hv10 => ?_)
      refine s_pop o dX11_force_65 rfl ?_
      refine s_goto (tgt := 162) o dX11_force_66 (by decide) ?_
      exact s_vret o rfl dX11_force_162 (fun _ hh => hh)
  · refine s_aload_n o dX11_force_33 rfl 1 rfl ?_
    refine s_iconst o dX11_force_34 ?_
    refine s_lload_n o dX11_force_35 rfl 2 rfl ?_
    refine s_cs (d := d + 1) (As := [vJ l1]) (st := [vI 1, vA (mg Γ) 21]) o (st_of (mg Γ) (d + 1) h l1 hl1) mw_X11_of rfl (Or.inl (lw_all_tbl q3261)) (lw_all_tbl q3262) (wt_I (wt_A wt_0)) rfl dX11_force_36 rfl (rs := fun r => [vI r, vI 1, vA (mg Γ) 21]) (fun _ => rfl) (fun v11 hv11 => ?_)
    refine s_iconst o dX11_force_39 ?_
    refine s_cv (d := d + 1) (C := "LazyForgeModel") (As := [vI 1, vI v11, vI 2]) (st := []) o (st_putRow (mg Γ) d h hT 1 v11 2 (r32 rfl) (hv11 _ rfl) (r32 rfl)) mw_X11_putRow rfl (Or.inl (lw_all_tbl q3348)) (lw_all_tbl qs150) (lw_all_tbl q3350) (fun t => rc_t o hT t) wt_0 rfl dX11_force_40 rfl (rs := fun r => [vI r]) (fun _ => rfl) (fun v12 hv12 => ?_)
    refine s_pop o dX11_force_43 rfl ?_
    refine s_goto (tgt := 162) o dX11_force_44 (by decide) ?_
    exact s_vret o rfl dX11_force_162 (fun _ hh => hh)
noncomputable def t_force_24  (l1 : Int) : Mo TS Int :=
  t_force_25 l1 0
theorem st_force_24 {Γ : Gm} {h : CH} {d : Nat} (hT : HT h) (o : Ok Γ "LazyForgeModel" cX11_force 5 (Option.none : Option Jvm.ClassFile.FieldType) (d + 2))   (l1 : Int) (hl1 : R64 l1) : Sx Γ (fun t => (h, t)) (fun a s => mt Γ = (0, a, ((h, s) : Wd))) 24 [(0, vA (mg Γ) 21), (1, vJ l1)] [] (t_force_24 l1) := by
  unfold t_force_24
  refine s_iconst o dX11_force_24 ?_
  exact st_force_25 hT o l1 0 hl1 (Or.inl rfl)
noncomputable def t_force (l1 : Int) : Mo TS Int :=
  bnd (t_kindOf l1) fun v1 =>
  if ¬ v1 = 3 then
    t_force_24 l1
  else
    bnd (t_of l1) fun v2 =>
    bnd (rd 92 4100 v2) fun v3 =>
    if ¬ v3 = 0 then
      t_force_24 l1
    else
      t_force_25 l1 1
theorem st_force (g : gC) (d : Nat) (h : CH) (hT : HT h) (l1 : Int) (hl1 : R64 l1) : SF g yX11_force (Cond.code yX11_force cX11_force 5 (Option.none : Option Jvm.ClassFile.FieldType)) (Option.none : Option Jvm.ClassFile.FieldType) (d + 2) [vA g 21, vJ l1] (fun t => (h, t)) (t_force l1) := by
  refine SF.of (lv := [(0, vA g 21), (1, vJ l1)]) (by decide) (wt_A (wt_J wt_0)) rfl (by simp only [la_A, la_I, la_J, la_0]) (fun Γ hg hnm o => ?_)
  subst hg
  have o : Ok Γ "LazyForgeModel" cX11_force 5 (Option.none : Option Jvm.ClassFile.FieldType) (d + 2) := o
  unfold t_force
  refine s_lload_n o dX11_force_0 rfl 1 rfl ?_
  refine s_cs (d := d + 1) (As := [vJ l1]) (st := []) o (st_kindOf (mg Γ) (d + 1) h l1 hl1) mw_X11_kindOf rfl (Or.inl (lw_all_tbl q3254)) (lw_all_tbl q3255) wt_0 rfl dX11_force_1 rfl (rs := fun r => [vI r]) (fun _ => rfl) (fun v1 hv1 => ?_)
  refine s_iconst o dX11_force_4 ?_
  refine s_icmp_ne (tgt := 24) o dX11_force_5 (by decide) (hv1 _ rfl) (r32 rfl) ?_ ?_
  · exact st_force_24 hT o l1 hl1
  · refine s_aload_n o dX11_force_8 rfl 0 rfl ?_
    refine s_tga (x := 81) o hT tf_cellSorts ta_cellSorts (lw_all_tbl q2596) dX11_force_9 ?_
    refine s_lload_n o dX11_force_12 rfl 1 rfl ?_
    refine s_cs (d := d + 1) (As := [vJ l1]) (st := [vA (mg Γ) 81]) o (st_of (mg Γ) (d + 1) h l1 hl1) mw_X11_of rfl (Or.inl (lw_all_tbl q3261)) (lw_all_tbl q3262) (wt_A wt_0) rfl dX11_force_13 rfl (rs := fun r => [vI r, vA (mg Γ) 81]) (fun _ => rfl) (fun v2 hv2 => ?_)
    refine r_tiald o hT tr_cellSorts (hv2 _ rfl) dX11_force_16 (fun v3 hv3 => ?_)
    refine s_if_ne (tgt := 24) o dX11_force_17 (by decide) hv3 ?_ ?_
    · exact st_force_24 hT o l1 hl1
    · refine s_iconst o dX11_force_20 ?_
      refine s_goto (tgt := 25) o dX11_force_21 (by decide) ?_
      exact st_force_25 hT o l1 1 hl1 (Or.inr rfl)
theorem dX11_functionName_0 : decode cX11_functionName 0 = .ok (.iload_n 1, 1) := by decide +kernel
theorem dX11_functionName_1 : decode cX11_functionName 1 = .ok (.aload_n 0, 1) := by decide +kernel
theorem dX11_functionName_2 : decode cX11_functionName 2 = .ok (.invokevirtual 517, 3) := by decide +kernel
theorem dX11_functionName_5 : decode cX11_functionName 5 = .ok (.if_icmp .ne 22, 3) := by decide +kernel
theorem dX11_functionName_8 : decode cX11_functionName 8 = .ok (.aload_n 0, 1) := by decide +kernel
theorem dX11_functionName_9 : decode cX11_functionName 9 = .ok (.bipush 109, 2) := by decide +kernel
theorem dX11_functionName_11 : decode cX11_functionName 11 = .ok (.bipush 97, 2) := by decide +kernel
theorem dX11_functionName_13 : decode cX11_functionName 13 = .ok (.bipush 105, 2) := by decide +kernel
theorem dX11_functionName_15 : decode cX11_functionName 15 = .ok (.bipush 110, 2) := by decide +kernel
theorem dX11_functionName_17 : decode cX11_functionName 17 = .ok (.iconst 0, 1) := by decide +kernel
theorem dX11_functionName_18 : decode cX11_functionName 18 = .ok (.invokestatic 257, 3) := by decide +kernel
theorem dX11_functionName_21 : decode cX11_functionName 21 = .ok (.invokevirtual 789, 3) := by decide +kernel
theorem dX11_functionName_24 : decode cX11_functionName 24 = .ok (.goto 14, 3) := by decide +kernel
theorem dX11_functionName_27 : decode cX11_functionName 27 = .ok (.aload_n 0, 1) := by decide +kernel
theorem dX11_functionName_28 : decode cX11_functionName 28 = .ok (.bipush 102, 2) := by decide +kernel
theorem dX11_functionName_30 : decode cX11_functionName 30 = .ok (.invokevirtual 783, 3) := by decide +kernel
theorem dX11_functionName_33 : decode cX11_functionName 33 = .ok (.aload_n 0, 1) := by decide +kernel
theorem dX11_functionName_34 : decode cX11_functionName 34 = .ok (.iload_n 1, 1) := by decide +kernel
theorem dX11_functionName_35 : decode cX11_functionName 35 = .ok (.invokevirtual 786, 3) := by decide +kernel
theorem dX11_functionName_38 : decode cX11_functionName 38 = .ok (.return_, 1) := by decide +kernel
theorem mw_X11_functionName : MW yX11_functionName (Cond.code yX11_functionName cX11_functionName 2 (Option.none : Option Jvm.ClassFile.FieldType)) cX11_functionName 2 (Option.none : Option Jvm.ClassFile.FieldType) 1 := ⟨rfl, ⟨(lw_all_tbl q3387), rfl, (lw_all_tbl q173)⟩, rfl, ⟨by decide, by decide⟩, by decide +kernel⟩
noncomputable def t_functionName (l1 : Int) : Mo TS Int :=
  bnd (t_mainFunction) fun v1 =>
  if ¬ l1 = v1 then
    bnd (t_letters 102) fun _ =>
    bnd (t_digits l1) fun _ =>
    pr 0
  else
    bnd (t_pack 109 97 105 110 0) fun v2 =>
    bnd (t_signs v2) fun _ =>
    pr 0
theorem st_functionName (g : gC) (d : Nat) (h : CH) (hT : HT h) (l1 : Int) (hl1 : R32 l1) : SF g yX11_functionName (Cond.code yX11_functionName cX11_functionName 2 (Option.none : Option Jvm.ClassFile.FieldType)) (Option.none : Option Jvm.ClassFile.FieldType) (d + 2) [vA g 21, vI l1] (fun t => (h, t)) (t_functionName l1) := by
  refine SF.of (lv := [(0, vA g 21), (1, vI l1)]) (by decide) (wt_A (wt_I wt_0)) rfl (by simp only [la_A, la_I, la_J, la_0]) (fun Γ hg hnm o => ?_)
  subst hg
  have o : Ok Γ "LazyForgeModel" cX11_functionName 2 (Option.none : Option Jvm.ClassFile.FieldType) (d + 2) := o
  unfold t_functionName
  refine s_iload_n o dX11_functionName_0 rfl 1 rfl ?_
  refine s_aload_n o dX11_functionName_1 rfl 0 rfl ?_
  refine s_cv (d := d + 1) (C := "LazyForgeModel") (As := []) (st := [vI l1]) o (st_mainFunction (mg Γ) d h hT) mw_X11_mainFunction rfl (Or.inl (lw_all_tbl q3161)) (lw_all_tbl qs109) (lw_all_tbl q3163) (fun t => rc_t o hT t) (wt_I wt_0) rfl dX11_functionName_2 rfl (rs := fun r => [vI r, vI l1]) (fun _ => rfl) (fun v1 hv1 => ?_)
  refine s_icmp_ne (tgt := 27) o dX11_functionName_5 (by decide) hl1 (hv1 _ rfl) ?_ ?_
  · refine s_aload_n o dX11_functionName_27 rfl 0 rfl ?_
    refine s_bipush o dX11_functionName_28 rfl ?_
    refine s_cv (d := d + 1) (C := "LazyForgeModel") (As := [vI 102]) (st := []) o (st_letters (mg Γ) (d + 1) h hT 102 (r32 rfl)) mw_X11_letters rfl (Or.inl (lw_all_tbl q3376)) (lw_all_tbl qs152) (lw_all_tbl q3378) (fun t => rc_t o hT t) wt_0 rfl dX11_functionName_30 rfl (rs := fun _ => []) (fun _ => rfl) (fun _ _ => ?_)
    refine s_aload_n o dX11_functionName_33 rfl 0 rfl ?_
    refine s_iload_n o dX11_functionName_34 rfl 1 rfl ?_
    refine s_cv (d := d + 1) (C := "LazyForgeModel") (As := [vI l1]) (st := []) o (st_digits (mg Γ) d h hT l1 hl1) mw_X11_digits rfl (Or.inl (lw_all_tbl q3380)) (lw_all_tbl qs153) (lw_all_tbl q3382) (fun t => rc_t o hT t) wt_0 rfl dX11_functionName_35 rfl (rs := fun _ => []) (fun _ => rfl) (fun _ _ => ?_)
    exact s_vret o rfl dX11_functionName_38 (fun _ hh => hh)
  · refine s_aload_n o dX11_functionName_8 rfl 0 rfl ?_
    refine s_bipush o dX11_functionName_9 rfl ?_
    refine s_bipush o dX11_functionName_11 rfl ?_
    refine s_bipush o dX11_functionName_13 rfl ?_
    refine s_bipush o dX11_functionName_15 rfl ?_
    refine s_iconst o dX11_functionName_17 ?_
    refine s_cs (d := d + 1) (As := [vI 109, vI 97, vI 105, vI 110, vI 0]) (st := [vA (mg Γ) 21]) o (st_pack (mg Γ) (d + 1) h 109 97 105 110 0 (r32 rfl) (r32 rfl) (r32 rfl) (r32 rfl) (r32 rfl)) mw_X11_pack rfl (Or.inl (lw_all_tbl q2929)) (lw_all_tbl q2930) (wt_A wt_0) rfl dX11_functionName_18 rfl (rs := fun r => [vJ r, vA (mg Γ) 21]) (fun _ => rfl) (fun v2 hv2 => ?_)
    refine s_cv (d := d + 1) (C := "LazyForgeModel") (As := [vJ v2]) (st := []) o (st_signs (mg Γ) d h hT v2 (hv2 _ rfl)) mw_X11_signs rfl (Or.inl (lw_all_tbl q3372)) (lw_all_tbl qs151) (lw_all_tbl q3374) (fun t => rc_t o hT t) wt_0 rfl dX11_functionName_21 rfl (rs := fun _ => []) (fun _ => rfl) (fun _ _ => ?_)
    refine s_goto (tgt := 38) o dX11_functionName_24 (by decide) ?_
    exact s_vret o rfl dX11_functionName_38 (fun _ hh => hh)
theorem dX11_variable_0 : decode cX11_variable 0 = .ok (.aload_n 0, 1) := by decide +kernel
theorem dX11_variable_1 : decode cX11_variable 1 = .ok (.bipush 118, 2) := by decide +kernel
theorem dX11_variable_3 : decode cX11_variable 3 = .ok (.invokevirtual 783, 3) := by decide +kernel
theorem dX11_variable_6 : decode cX11_variable 6 = .ok (.aload_n 0, 1) := by decide +kernel
theorem dX11_variable_7 : decode cX11_variable 7 = .ok (.iload_n 1, 1) := by decide +kernel
theorem dX11_variable_8 : decode cX11_variable 8 = .ok (.invokevirtual 786, 3) := by decide +kernel
theorem dX11_variable_11 : decode cX11_variable 11 = .ok (.return_, 1) := by decide +kernel
theorem mw_X11_variable : MW yX11_variable (Cond.code yX11_variable cX11_variable 2 (Option.none : Option Jvm.ClassFile.FieldType)) cX11_variable 2 (Option.none : Option Jvm.ClassFile.FieldType) 1 := ⟨rfl, ⟨(lw_all_tbl q3391), rfl, (lw_all_tbl q173)⟩, rfl, ⟨by decide, by decide⟩, by decide +kernel⟩
noncomputable def t_variable (l1 : Int) : Mo TS Int :=
  bnd (t_letters 118) fun _ =>
  bnd (t_digits l1) fun _ =>
  pr 0
theorem st_variable (g : gC) (d : Nat) (h : CH) (hT : HT h) (l1 : Int) (hl1 : R32 l1) : SF g yX11_variable (Cond.code yX11_variable cX11_variable 2 (Option.none : Option Jvm.ClassFile.FieldType)) (Option.none : Option Jvm.ClassFile.FieldType) (d + 2) [vA g 21, vI l1] (fun t => (h, t)) (t_variable l1) := by
  refine SF.of (lv := [(0, vA g 21), (1, vI l1)]) (by decide) (wt_A (wt_I wt_0)) rfl (by simp only [la_A, la_I, la_J, la_0]) (fun Γ hg hnm o => ?_)
  subst hg
  have o : Ok Γ "LazyForgeModel" cX11_variable 2 (Option.none : Option Jvm.ClassFile.FieldType) (d + 2) := o
  unfold t_variable
  refine s_aload_n o dX11_variable_0 rfl 0 rfl ?_
  refine s_bipush o dX11_variable_1 rfl ?_
  refine s_cv (d := d + 1) (C := "LazyForgeModel") (As := [vI 118]) (st := []) o (st_letters (mg Γ) (d + 1) h hT 118 (r32 rfl)) mw_X11_letters rfl (Or.inl (lw_all_tbl q3376)) (lw_all_tbl qs152) (lw_all_tbl q3378) (fun t => rc_t o hT t) wt_0 rfl dX11_variable_3 rfl (rs := fun _ => []) (fun _ => rfl) (fun _ _ => ?_)
  refine s_aload_n o dX11_variable_6 rfl 0 rfl ?_
  refine s_iload_n o dX11_variable_7 rfl 1 rfl ?_
  refine s_cv (d := d + 1) (C := "LazyForgeModel") (As := [vI l1]) (st := []) o (st_digits (mg Γ) d h hT l1 hl1) mw_X11_digits rfl (Or.inl (lw_all_tbl q3380)) (lw_all_tbl qs153) (lw_all_tbl q3382) (fun t => rc_t o hT t) wt_0 rfl dX11_variable_8 rfl (rs := fun _ => []) (fun _ => rfl) (fun _ _ => ?_)
  exact s_vret o rfl dX11_variable_11 (fun _ hh => hh)
theorem dX11_operation_0 : decode cX11_operation 0 = .ok (.aload_n 0, 1) := by decide +kernel
theorem dX11_operation_1 : decode cX11_operation 1 = .ok (.bipush 32, 2) := by decide +kernel
theorem dX11_operation_3 : decode cX11_operation 3 = .ok (.invokevirtual 783, 3) := by decide +kernel
theorem dX11_operation_6 : decode cX11_operation 6 = .ok (.iload_n 1, 1) := by decide +kernel
theorem dX11_operation_7 : decode cX11_operation 7 = .ok (.bipush 21, 2) := by decide +kernel
theorem dX11_operation_9 : decode cX11_operation 9 = .ok (.if_icmp .ne 20, 3) := by decide +kernel
theorem dX11_operation_12 : decode cX11_operation 12 = .ok (.aload_n 0, 1) := by decide +kernel
theorem dX11_operation_13 : decode cX11_operation 13 = .ok (.bipush 61, 2) := by decide +kernel
theorem dX11_operation_15 : decode cX11_operation 15 = .ok (.bipush 61, 2) := by decide +kernel
theorem dX11_operation_17 : decode cX11_operation 17 = .ok (.iconst 0, 1) := by decide +kernel
theorem dX11_operation_18 : decode cX11_operation 18 = .ok (.iconst 0, 1) := by decide +kernel
theorem dX11_operation_19 : decode cX11_operation 19 = .ok (.iconst 0, 1) := by decide +kernel
theorem dX11_operation_20 : decode cX11_operation 20 = .ok (.invokestatic 257, 3) := by decide +kernel
theorem dX11_operation_23 : decode cX11_operation 23 = .ok (.invokevirtual 789, 3) := by decide +kernel
theorem dX11_operation_26 : decode cX11_operation 26 = .ok (.goto 34, 3) := by decide +kernel
theorem dX11_operation_29 : decode cX11_operation 29 = .ok (.iload_n 1, 1) := by decide +kernel
theorem dX11_operation_30 : decode cX11_operation 30 = .ok (.bipush 22, 2) := by decide +kernel
theorem dX11_operation_32 : decode cX11_operation 32 = .ok (.if_icmp .ne 20, 3) := by decide +kernel
theorem dX11_operation_35 : decode cX11_operation 35 = .ok (.aload_n 0, 1) := by decide +kernel
theorem dX11_operation_36 : decode cX11_operation 36 = .ok (.bipush 60, 2) := by decide +kernel
theorem dX11_operation_38 : decode cX11_operation 38 = .ok (.bipush 61, 2) := by decide +kernel
theorem dX11_operation_40 : decode cX11_operation 40 = .ok (.iconst 0, 1) := by decide +kernel
theorem dX11_operation_41 : decode cX11_operation 41 = .ok (.iconst 0, 1) := by decide +kernel
theorem dX11_operation_42 : decode cX11_operation 42 = .ok (.iconst 0, 1) := by decide +kernel
theorem dX11_operation_43 : decode cX11_operation 43 = .ok (.invokestatic 257, 3) := by decide +kernel
theorem dX11_operation_46 : decode cX11_operation 46 = .ok (.invokevirtual 789, 3) := by decide +kernel
theorem dX11_operation_49 : decode cX11_operation 49 = .ok (.goto 11, 3) := by decide +kernel
theorem dX11_operation_52 : decode cX11_operation 52 = .ok (.aload_n 0, 1) := by decide +kernel
theorem dX11_operation_53 : decode cX11_operation 53 = .ok (.iload_n 1, 1) := by decide +kernel
theorem dX11_operation_54 : decode cX11_operation 54 = .ok (.bipush 100, 2) := by decide +kernel
theorem dX11_operation_56 : decode cX11_operation 56 = .ok (.isub, 1) := by decide +kernel
theorem dX11_operation_57 : decode cX11_operation 57 = .ok (.invokevirtual 783, 3) := by decide +kernel
theorem dX11_operation_60 : decode cX11_operation 60 = .ok (.aload_n 0, 1) := by decide +kernel
theorem dX11_operation_61 : decode cX11_operation 61 = .ok (.bipush 32, 2) := by decide +kernel
theorem dX11_operation_63 : decode cX11_operation 63 = .ok (.invokevirtual 783, 3) := by decide +kernel
theorem dX11_operation_66 : decode cX11_operation 66 = .ok (.return_, 1) := by decide +kernel
theorem mw_X11_operation : MW yX11_operation (Cond.code yX11_operation cX11_operation 2 (Option.none : Option Jvm.ClassFile.FieldType)) cX11_operation 2 (Option.none : Option Jvm.ClassFile.FieldType) 1 := ⟨rfl, ⟨(lw_all_tbl q3411), rfl, (lw_all_tbl q173)⟩, rfl, ⟨by decide, by decide⟩, by decide +kernel⟩
noncomputable def t_operation_60  : Mo TS Int :=
  bnd (t_letters 32) fun _ =>
  pr 0
theorem st_operation_60 {Γ : Gm} {h : CH} {d : Nat} (hT : HT h) (o : Ok Γ "LazyForgeModel" cX11_operation 2 (Option.none : Option Jvm.ClassFile.FieldType) (d + 2))   : Sx Γ (fun t => (h, t)) (fun a s => mt Γ = (0, a, ((h, s) : Wd))) 60 [(0, vA (mg Γ) 21)] [] (t_operation_60) := by
  unfold t_operation_60
  refine s_aload_n o dX11_operation_60 rfl 0 rfl ?_
  refine s_bipush o dX11_operation_61 rfl ?_
  refine s_cv (d := d + 1) (C := "LazyForgeModel") (As := [vI 32]) (st := []) o (st_letters (mg Γ) (d + 1) h hT 32 (r32 rfl)) mw_X11_letters rfl (Or.inl (lw_all_tbl q3376)) (lw_all_tbl qs152) (lw_all_tbl q3378) (fun t => rc_t o hT t) wt_0 rfl dX11_operation_63 rfl (rs := fun _ => []) (fun _ => rfl) (fun _ _ => ?_)
  exact s_vret o rfl dX11_operation_66 (fun _ hh => hh)
noncomputable def t_operation (l1 : Int) : Mo TS Int :=
  bnd (t_letters 32) fun _ =>
  if ¬ l1 = 21 then
    if ¬ l1 = 22 then
      bnd (t_letters (w32 (l1 - 100))) fun _ =>
      t_operation_60
    else
      bnd (t_pack 60 61 0 0 0) fun v1 =>
      bnd (t_signs v1) fun _ =>
      t_operation_60
  else
    bnd (t_pack 61 61 0 0 0) fun v2 =>
    bnd (t_signs v2) fun _ =>
    t_operation_60
theorem st_operation (g : gC) (d : Nat) (h : CH) (hT : HT h) (l1 : Int) (hl1 : R32 l1) : SF g yX11_operation (Cond.code yX11_operation cX11_operation 2 (Option.none : Option Jvm.ClassFile.FieldType)) (Option.none : Option Jvm.ClassFile.FieldType) (d + 2) [vA g 21, vI l1] (fun t => (h, t)) (t_operation l1) := by
  refine SF.of (lv := [(0, vA g 21), (1, vI l1)]) (by decide) (wt_A (wt_I wt_0)) rfl (by simp only [la_A, la_I, la_J, la_0]) (fun Γ hg hnm o => ?_)
  subst hg
  have o : Ok Γ "LazyForgeModel" cX11_operation 2 (Option.none : Option Jvm.ClassFile.FieldType) (d + 2) := o
  unfold t_operation
  refine s_aload_n o dX11_operation_0 rfl 0 rfl ?_
  refine s_bipush o dX11_operation_1 rfl ?_
  refine s_cv (d := d + 1) (C := "LazyForgeModel") (As := [vI 32]) (st := []) o (st_letters (mg Γ) (d + 1) h hT 32 (r32 rfl)) mw_X11_letters rfl (Or.inl (lw_all_tbl q3376)) (lw_all_tbl qs152) (lw_all_tbl q3378) (fun t => rc_t o hT t) wt_0 rfl dX11_operation_3 rfl (rs := fun _ => []) (fun _ => rfl) (fun _ _ => ?_)
  refine s_iload_n o dX11_operation_6 rfl 1 rfl ?_
  refine s_bipush o dX11_operation_7 rfl ?_
  refine s_icmp_ne (tgt := 29) o dX11_operation_9 (by decide) hl1 (r32 rfl) ?_ ?_
  · refine s_iload_n o dX11_operation_29 rfl 1 rfl ?_
    refine s_bipush o dX11_operation_30 rfl ?_
    refine s_icmp_ne (tgt := 52) o dX11_operation_32 (by decide) hl1 (r32 rfl) ?_ ?_
    · refine s_aload_n o dX11_operation_52 rfl 0 rfl ?_
      refine s_iload_n o dX11_operation_53 rfl 1 rfl ?_
      refine s_bipush o dX11_operation_54 rfl ?_
      refine s_isub o dX11_operation_56 ?_
      refine s_cv (d := d + 1) (C := "LazyForgeModel") (As := [vI (w32 (l1 - 100))]) (st := []) o (st_letters (mg Γ) (d + 1) h hT (w32 (l1 - 100)) (w32_R _)) mw_X11_letters rfl (Or.inl (lw_all_tbl q3376)) (lw_all_tbl qs152) (lw_all_tbl q3378) (fun t => rc_t o hT t) wt_0 rfl dX11_operation_57 rfl (rs := fun _ => []) (fun _ => rfl) (fun _ _ => ?_)
      refine r_to [(0, vA (mg Γ) 21)] [0] rfl ?_
      exact st_operation_60 hT o
    · refine s_aload_n o dX11_operation_35 rfl 0 rfl ?_
      refine s_bipush o dX11_operation_36 rfl ?_
      refine s_bipush o dX11_operation_38 rfl ?_
      refine s_iconst o dX11_operation_40 ?_
      refine s_iconst o dX11_operation_41 ?_
      refine s_iconst o dX11_operation_42 ?_
      refine s_cs (d := d + 1) (As := [vI 60, vI 61, vI 0, vI 0, vI 0]) (st := [vA (mg Γ) 21]) o (st_pack (mg Γ) (d + 1) h 60 61 0 0 0 (r32 rfl) (r32 rfl) (r32 rfl) (r32 rfl) (r32 rfl)) mw_X11_pack rfl (Or.inl (lw_all_tbl q2929)) (lw_all_tbl q2930) (wt_A wt_0) rfl dX11_operation_43 rfl (rs := fun r => [vJ r, vA (mg Γ) 21]) (fun _ => rfl) (fun v1 hv1 => ?_)
      refine s_cv (d := d + 1) (C := "LazyForgeModel") (As := [vJ v1]) (st := []) o (st_signs (mg Γ) d h hT v1 (hv1 _ rfl)) mw_X11_signs rfl (Or.inl (lw_all_tbl q3372)) (lw_all_tbl qs151) (lw_all_tbl q3374) (fun t => rc_t o hT t) wt_0 rfl dX11_operation_46 rfl (rs := fun _ => []) (fun _ => rfl) (fun _ _ => ?_)
      refine s_goto (tgt := 60) o dX11_operation_49 (by decide) ?_
      refine r_to [(0, vA (mg Γ) 21)] [0] rfl ?_
      exact st_operation_60 hT o
  · refine s_aload_n o dX11_operation_12 rfl 0 rfl ?_
    refine s_bipush o dX11_operation_13 rfl ?_
    refine s_bipush o dX11_operation_15 rfl ?_
    refine s_iconst o dX11_operation_17 ?_
    refine s_iconst o dX11_operation_18 ?_
    refine s_iconst o dX11_operation_19 ?_
    refine s_cs (d := d + 1) (As := [vI 61, vI 61, vI 0, vI 0, vI 0]) (st := [vA (mg Γ) 21]) o (st_pack (mg Γ) (d + 1) h 61 61 0 0 0 (r32 rfl) (r32 rfl) (r32 rfl) (r32 rfl) (r32 rfl)) mw_X11_pack rfl (Or.inl (lw_all_tbl q2929)) (lw_all_tbl q2930) (wt_A wt_0) rfl dX11_operation_20 rfl (rs := fun r => [vJ r, vA (mg Γ) 21]) (fun _ => rfl) (fun v2 hv2 => ?_)
    refine s_cv (d := d + 1) (C := "LazyForgeModel") (As := [vJ v2]) (st := []) o (st_signs (mg Γ) d h hT v2 (hv2 _ rfl)) mw_X11_signs rfl (Or.inl (lw_all_tbl q3372)) (lw_all_tbl qs151) (lw_all_tbl q3374) (fun t => rc_t o hT t) wt_0 rfl dX11_operation_23 rfl (rs := fun _ => []) (fun _ => rfl) (fun _ _ => ?_)
    refine s_goto (tgt := 60) o dX11_operation_26 (by decide) ?_
    refine r_to [(0, vA (mg Γ) 21)] [0] rfl ?_
    exact st_operation_60 hT o
theorem dX11_next_0 : decode cX11_next 0 = .ok (.aload_n 0, 1) := by decide +kernel
theorem dX11_next_1 : decode cX11_next 1 = .ok (.invokevirtual 298, 3) := by decide +kernel
theorem dX11_next_4 : decode cX11_next 4 = .ok (.aload_n 0, 1) := by decide +kernel
theorem dX11_next_5 : decode cX11_next 5 = .ok (.aload_n 0, 1) := by decide +kernel
theorem dX11_next_6 : decode cX11_next 6 = .ok (.getfield 261, 3) := by decide +kernel
theorem dX11_next_9 : decode cX11_next 9 = .ok (.putfield 275, 3) := by decide +kernel
theorem dX11_next_12 : decode cX11_next 12 = .ok (.aload_n 0, 1) := by decide +kernel
theorem dX11_next_13 : decode cX11_next 13 = .ok (.aload_n 0, 1) := by decide +kernel
theorem dX11_next_14 : decode cX11_next 14 = .ok (.getfield 261, 3) := by decide +kernel
theorem dX11_next_17 : decode cX11_next 17 = .ok (.invokevirtual 264, 3) := by decide +kernel
theorem dX11_next_20 : decode cX11_next 20 = .ok (.istore_n 1, 1) := by decide +kernel
theorem dX11_next_21 : decode cX11_next 21 = .ok (.aload_n 0, 1) := by decide +kernel
theorem dX11_next_22 : decode cX11_next 22 = .ok (.aload_n 0, 1) := by decide +kernel
theorem dX11_next_23 : decode cX11_next 23 = .ok (.getfield 261, 3) := by decide +kernel
theorem dX11_next_26 : decode cX11_next 26 = .ok (.iconst 1, 1) := by decide +kernel
theorem dX11_next_27 : decode cX11_next 27 = .ok (.iadd, 1) := by decide +kernel
theorem dX11_next_28 : decode cX11_next 28 = .ok (.invokevirtual 264, 3) := by decide +kernel
theorem dX11_next_31 : decode cX11_next 31 = .ok (.istore_n 2, 1) := by decide +kernel
theorem dX11_next_32 : decode cX11_next 32 = .ok (.aload_n 0, 1) := by decide +kernel
theorem dX11_next_33 : decode cX11_next 33 = .ok (.getfield 261, 3) := by decide +kernel
theorem dX11_next_36 : decode cX11_next 36 = .ok (.aload_n 0, 1) := by decide +kernel
theorem dX11_next_37 : decode cX11_next 37 = .ok (.getfield 254, 3) := by decide +kernel
theorem dX11_next_40 : decode cX11_next 40 = .ok (.if_icmp .lt 11, 3) := by decide +kernel
theorem dX11_next_43 : decode cX11_next 43 = .ok (.aload_n 0, 1) := by decide +kernel
theorem dX11_next_44 : decode cX11_next 44 = .ok (.iconst 0, 1) := by decide +kernel
theorem dX11_next_45 : decode cX11_next 45 = .ok (.putfield 286, 3) := by decide +kernel
theorem dX11_next_48 : decode cX11_next 48 = .ok (.goto 263, 3) := by decide +kernel
theorem dX11_next_51 : decode cX11_next 51 = .ok (.iload_n 1, 1) := by decide +kernel
theorem dX11_next_52 : decode cX11_next 52 = .ok (.invokestatic 268, 3) := by decide +kernel
theorem dX11_next_55 : decode cX11_next 55 = .ok (.ifCond .ne 10, 3) := by decide +kernel
theorem dX11_next_58 : decode cX11_next 58 = .ok (.iload_n 1, 1) := by decide +kernel
theorem dX11_next_59 : decode cX11_next 59 = .ok (.invokestatic 301, 3) := by decide +kernel
theorem dX11_next_62 : decode cX11_next 62 = .ok (.ifCond .eq 14, 3) := by decide +kernel
theorem dX11_next_65 : decode cX11_next 65 = .ok (.aload_n 0, 1) := by decide +kernel
theorem dX11_next_66 : decode cX11_next 66 = .ok (.iload_n 1, 1) := by decide +kernel
theorem dX11_next_67 : decode cX11_next 67 = .ok (.invokestatic 301, 3) := by decide +kernel
theorem dX11_next_70 : decode cX11_next 70 = .ok (.invokevirtual 304, 3) := by decide +kernel
theorem dX11_next_73 : decode cX11_next 73 = .ok (.goto 238, 3) := by decide +kernel
theorem dX11_next_76 : decode cX11_next 76 = .ok (.iload_n 1, 1) := by decide +kernel
theorem dX11_next_77 : decode cX11_next 77 = .ok (.invokestatic 272, 3) := by decide +kernel
theorem dX11_next_80 : decode cX11_next 80 = .ok (.ifCond .eq 10, 3) := by decide +kernel
theorem dX11_next_83 : decode cX11_next 83 = .ok (.aload_n 0, 1) := by decide +kernel
theorem dX11_next_84 : decode cX11_next 84 = .ok (.invokevirtual 308, 3) := by decide +kernel
theorem dX11_next_87 : decode cX11_next 87 = .ok (.goto 224, 3) := by decide +kernel
theorem dX11_next_90 : decode cX11_next 90 = .ok (.iload_n 1, 1) := by decide +kernel
theorem dX11_next_91 : decode cX11_next 91 = .ok (.bipush 45, 2) := by decide +kernel
theorem dX11_next_93 : decode cX11_next 93 = .ok (.if_icmp .ne 9, 3) := by decide +kernel
theorem dX11_next_96 : decode cX11_next 96 = .ok (.iload_n 2, 1) := by decide +kernel
theorem dX11_next_97 : decode cX11_next 97 = .ok (.bipush 62, 2) := by decide +kernel
theorem dX11_next_99 : decode cX11_next 99 = .ok (.if_icmp .eq 27, 3) := by decide +kernel
theorem dX11_next_102 : decode cX11_next 102 = .ok (.iload_n 1, 1) := by decide +kernel
theorem dX11_next_103 : decode cX11_next 103 = .ok (.bipush 60, 2) := by decide +kernel
theorem dX11_next_105 : decode cX11_next 105 = .ok (.if_icmp .ne 9, 3) := by decide +kernel
theorem dX11_next_108 : decode cX11_next 108 = .ok (.iload_n 2, 1) := by decide +kernel
theorem dX11_next_109 : decode cX11_next 109 = .ok (.bipush 61, 2) := by decide +kernel
theorem dX11_next_111 : decode cX11_next 111 = .ok (.if_icmp .eq 15, 3) := by decide +kernel
theorem dX11_next_114 : decode cX11_next 114 = .ok (.iload_n 1, 1) := by decide +kernel
theorem dX11_next_115 : decode cX11_next 115 = .ok (.bipush 61, 2) := by decide +kernel
theorem dX11_next_117 : decode cX11_next 117 = .ok (.if_icmp .ne 50, 3) := by decide +kernel
theorem dX11_next_120 : decode cX11_next 120 = .ok (.iload_n 2, 1) := by decide +kernel
theorem dX11_next_121 : decode cX11_next 121 = .ok (.bipush 61, 2) := by decide +kernel
theorem dX11_next_123 : decode cX11_next 123 = .ok (.if_icmp .ne 44, 3) := by decide +kernel
theorem dX11_next_126 : decode cX11_next 126 = .ok (.aload_n 0, 1) := by decide +kernel
theorem dX11_next_127 : decode cX11_next 127 = .ok (.dup, 1) := by decide +kernel
theorem dX11_next_128 : decode cX11_next 128 = .ok (.getfield 261, 3) := by decide +kernel
theorem dX11_next_131 : decode cX11_next 131 = .ok (.iconst 2, 1) := by decide +kernel
theorem dX11_next_132 : decode cX11_next 132 = .ok (.iadd, 1) := by decide +kernel
theorem dX11_next_133 : decode cX11_next 133 = .ok (.putfield 261, 3) := by decide +kernel
theorem dX11_next_136 : decode cX11_next 136 = .ok (.aload_n 0, 1) := by decide +kernel
theorem dX11_next_137 : decode cX11_next 137 = .ok (.iload_n 1, 1) := by decide +kernel
theorem dX11_next_138 : decode cX11_next 138 = .ok (.bipush 45, 2) := by decide +kernel
theorem dX11_next_140 : decode cX11_next 140 = .ok (.if_icmp .ne 8, 3) := by decide +kernel
theorem dX11_next_143 : decode cX11_next 143 = .ok (.bipush 20, 2) := by decide +kernel
theorem dX11_next_145 : decode cX11_next 145 = .ok (.goto 16, 3) := by decide +kernel
theorem dX11_next_148 : decode cX11_next 148 = .ok (.iload_n 1, 1) := by decide +kernel
theorem dX11_next_149 : decode cX11_next 149 = .ok (.bipush 60, 2) := by decide +kernel
theorem dX11_next_151 : decode cX11_next 151 = .ok (.if_icmp .ne 8, 3) := by decide +kernel
theorem dX11_next_154 : decode cX11_next 154 = .ok (.bipush 22, 2) := by decide +kernel
theorem dX11_next_156 : decode cX11_next 156 = .ok (.goto 5, 3) := by decide +kernel
theorem dX11_next_159 : decode cX11_next 159 = .ok (.bipush 21, 2) := by decide +kernel
theorem dX11_next_161 : decode cX11_next 161 = .ok (.putfield 286, 3) := by decide +kernel
theorem dX11_next_164 : decode cX11_next 164 = .ok (.goto 147, 3) := by decide +kernel
theorem dX11_next_167 : decode cX11_next 167 = .ok (.iload_n 1, 1) := by decide +kernel
theorem dX11_next_168 : decode cX11_next 168 = .ok (.bipush 40, 2) := by decide +kernel
theorem dX11_next_170 : decode cX11_next 170 = .ok (.if_icmp .eq 51, 3) := by decide +kernel
theorem dX11_next_173 : decode cX11_next 173 = .ok (.iload_n 1, 1) := by decide +kernel
theorem dX11_next_174 : decode cX11_next 174 = .ok (.bipush 41, 2) := by decide +kernel
theorem dX11_next_176 : decode cX11_next 176 = .ok (.if_icmp .eq 45, 3) := by decide +kernel
theorem dX11_next_179 : decode cX11_next 179 = .ok (.iload_n 1, 1) := by decide +kernel
theorem dX11_next_180 : decode cX11_next 180 = .ok (.bipush 123, 2) := by decide +kernel
theorem dX11_next_182 : decode cX11_next 182 = .ok (.if_icmp .eq 39, 3) := by decide +kernel
theorem dX11_next_185 : decode cX11_next 185 = .ok (.iload_n 1, 1) := by decide +kernel
theorem dX11_next_186 : decode cX11_next 186 = .ok (.bipush 125, 2) := by decide +kernel
theorem dX11_next_188 : decode cX11_next 188 = .ok (.if_icmp .eq 33, 3) := by decide +kernel
theorem dX11_next_191 : decode cX11_next 191 = .ok (.iload_n 1, 1) := by decide +kernel
theorem dX11_next_192 : decode cX11_next 192 = .ok (.bipush 61, 2) := by decide +kernel
theorem dX11_next_194 : decode cX11_next 194 = .ok (.if_icmp .eq 27, 3) := by decide +kernel
theorem dX11_next_197 : decode cX11_next 197 = .ok (.iload_n 1, 1) := by decide +kernel
theorem dX11_next_198 : decode cX11_next 198 = .ok (.bipush 59, 2) := by decide +kernel
theorem dX11_next_200 : decode cX11_next 200 = .ok (.if_icmp .eq 21, 3) := by decide +kernel
theorem dX11_next_203 : decode cX11_next 203 = .ok (.iload_n 1, 1) := by decide +kernel
theorem dX11_next_204 : decode cX11_next 204 = .ok (.bipush 44, 2) := by decide +kernel
theorem dX11_next_206 : decode cX11_next 206 = .ok (.if_icmp .eq 15, 3) := by decide +kernel
theorem dX11_next_209 : decode cX11_next 209 = .ok (.iload_n 1, 1) := by decide +kernel
theorem dX11_next_210 : decode cX11_next 210 = .ok (.bipush 92, 2) := by decide +kernel
theorem dX11_next_212 : decode cX11_next 212 = .ok (.if_icmp .eq 9, 3) := by decide +kernel
theorem dX11_next_215 : decode cX11_next 215 = .ok (.iload_n 1, 1) := by decide +kernel
theorem dX11_next_216 : decode cX11_next 216 = .ok (.bipush 46, 2) := by decide +kernel
theorem dX11_next_218 : decode cX11_next 218 = .ok (.if_icmp .ne 7, 3) := by decide +kernel
theorem dX11_next_221 : decode cX11_next 221 = .ok (.iconst 1, 1) := by decide +kernel
theorem dX11_next_222 : decode cX11_next 222 = .ok (.goto 4, 3) := by decide +kernel
theorem dX11_next_225 : decode cX11_next 225 = .ok (.iconst 0, 1) := by decide +kernel
theorem dX11_next_226 : decode cX11_next 226 = .ok (.istore_n 3, 1) := by decide +kernel
theorem dX11_next_227 : decode cX11_next 227 = .ok (.iload_n 3, 1) := by decide +kernel
theorem dX11_next_228 : decode cX11_next 228 = .ok (.ifCond .ne 51, 3) := by decide +kernel
theorem dX11_next_231 : decode cX11_next 231 = .ok (.iload_n 1, 1) := by decide +kernel
theorem dX11_next_232 : decode cX11_next 232 = .ok (.bipush 95, 2) := by decide +kernel
theorem dX11_next_234 : decode cX11_next 234 = .ok (.if_icmp .eq 45, 3) := by decide +kernel
theorem dX11_next_237 : decode cX11_next 237 = .ok (.iload_n 1, 1) := by decide +kernel
theorem dX11_next_238 : decode cX11_next 238 = .ok (.bipush 43, 2) := by decide +kernel
theorem dX11_next_240 : decode cX11_next 240 = .ok (.if_icmp .eq 39, 3) := by decide +kernel
theorem dX11_next_243 : decode cX11_next 243 = .ok (.iload_n 1, 1) := by decide +kernel
theorem dX11_next_244 : decode cX11_next 244 = .ok (.bipush 45, 2) := by decide +kernel
theorem dX11_next_246 : decode cX11_next 246 = .ok (.if_icmp .eq 33, 3) := by decide +kernel
theorem dX11_next_249 : decode cX11_next 249 = .ok (.iload_n 1, 1) := by decide +kernel
theorem dX11_next_250 : decode cX11_next 250 = .ok (.bipush 42, 2) := by decide +kernel
theorem dX11_next_252 : decode cX11_next 252 = .ok (.if_icmp .eq 27, 3) := by decide +kernel
theorem dX11_next_255 : decode cX11_next 255 = .ok (.iload_n 1, 1) := by decide +kernel
theorem dX11_next_256 : decode cX11_next 256 = .ok (.bipush 47, 2) := by decide +kernel
theorem dX11_next_258 : decode cX11_next 258 = .ok (.if_icmp .eq 21, 3) := by decide +kernel
theorem dX11_next_261 : decode cX11_next 261 = .ok (.iload_n 1, 1) := by decide +kernel
theorem dX11_next_262 : decode cX11_next 262 = .ok (.bipush 37, 2) := by decide +kernel
theorem dX11_next_264 : decode cX11_next 264 = .ok (.if_icmp .eq 15, 3) := by decide +kernel
theorem dX11_next_267 : decode cX11_next 267 = .ok (.iload_n 1, 1) := by decide +kernel
theorem dX11_next_268 : decode cX11_next 268 = .ok (.bipush 60, 2) := by decide +kernel
theorem dX11_next_270 : decode cX11_next 270 = .ok (.if_icmp .eq 9, 3) := by decide +kernel
theorem dX11_next_273 : decode cX11_next 273 = .ok (.iload_n 1, 1) := by decide +kernel
theorem dX11_next_274 : decode cX11_next 274 = .ok (.bipush 124, 2) := by decide +kernel
theorem dX11_next_276 : decode cX11_next 276 = .ok (.if_icmp .ne 7, 3) := by decide +kernel
theorem dX11_next_279 : decode cX11_next 279 = .ok (.iconst 1, 1) := by decide +kernel
theorem dX11_next_280 : decode cX11_next 280 = .ok (.goto 4, 3) := by decide +kernel
theorem dX11_next_283 : decode cX11_next 283 = .ok (.iconst 0, 1) := by decide +kernel
theorem dX11_next_284 : decode cX11_next 284 = .ok (.istore_n 3, 1) := by decide +kernel
theorem dX11_next_285 : decode cX11_next 285 = .ok (.aload_n 0, 1) := by decide +kernel
theorem dX11_next_286 : decode cX11_next 286 = .ok (.dup, 1) := by decide +kernel
theorem dX11_next_287 : decode cX11_next 287 = .ok (.getfield 261, 3) := by decide +kernel
theorem dX11_next_290 : decode cX11_next 290 = .ok (.iconst 1, 1) := by decide +kernel
theorem dX11_next_291 : decode cX11_next 291 = .ok (.iadd, 1) := by decide +kernel
theorem dX11_next_292 : decode cX11_next 292 = .ok (.putfield 261, 3) := by decide +kernel
theorem dX11_next_295 : decode cX11_next 295 = .ok (.aload_n 0, 1) := by decide +kernel
theorem dX11_next_296 : decode cX11_next 296 = .ok (.iload_n 3, 1) := by decide +kernel
theorem dX11_next_297 : decode cX11_next 297 = .ok (.ifCond .eq 10, 3) := by decide +kernel
theorem dX11_next_300 : decode cX11_next 300 = .ok (.bipush 100, 2) := by decide +kernel
theorem dX11_next_302 : decode cX11_next 302 = .ok (.iload_n 1, 1) := by decide +kernel
theorem dX11_next_303 : decode cX11_next 303 = .ok (.iadd, 1) := by decide +kernel
theorem dX11_next_304 : decode cX11_next 304 = .ok (.goto 4, 3) := by decide +kernel
theorem dX11_next_307 : decode cX11_next 307 = .ok (.iconst 1, 1) := by decide +kernel
theorem dX11_next_308 : decode cX11_next 308 = .ok (.putfield 286, 3) := by decide +kernel
theorem dX11_next_311 : decode cX11_next 311 = .ok (.return_, 1) := by decide +kernel
theorem mw_X11_next : MW yX11_next (Cond.code yX11_next cX11_next 4 (Option.none : Option Jvm.ClassFile.FieldType)) cX11_next 4 (Option.none : Option Jvm.ClassFile.FieldType) 0 := ⟨rfl, ⟨(lw_all_tbl q2935), rfl, (lw_all_tbl q173)⟩, rfl, ⟨by decide, by decide⟩, by decide +kernel⟩
noncomputable def t_next_65  (l1 : Int) : Mo TS Int :=
  bnd (t_isCapital l1) fun v1 =>
  bnd (t_readName v1) fun _ =>
  pr 0
theorem st_next_65 {Γ : Gm} {h : CH} {d : Nat} (hT : HT h) (o : Ok Γ "LazyForgeModel" cX11_next 4 (Option.none : Option Jvm.ClassFile.FieldType) (d + 3))   (l1 : Int) (hl1 : R32 l1) : Sx Γ (fun t => (h, t)) (fun a s => mt Γ = (0, a, ((h, s) : Wd))) 65 [(0, vA (mg Γ) 21), (1, vI l1)] [] (t_next_65 l1) := by
  unfold t_next_65
  refine s_aload_n o dX11_next_65 rfl 0 rfl ?_
  refine s_iload_n o dX11_next_66 rfl 1 rfl ?_
  refine s_cs (d := d + 2) (As := [vI l1]) (st := [vA (mg Γ) 21]) o (st_isCapital (mg Γ) (d + 2) h l1 hl1) mw_X11_isCapital rfl (Or.inl (lw_all_tbl q2947)) (lw_all_tbl q2948) (wt_A wt_0) rfl dX11_next_67 rfl (rs := fun r => [vI r, vA (mg Γ) 21]) (fun _ => rfl) (fun v1 hv1 => ?_)
  refine s_cv (d := d + 2) (C := "LazyForgeModel") (As := [vI v1]) (st := []) o (st_readName (mg Γ) d h hT v1 (hv1 _ rfl)) mw_X11_readName rfl (Or.inl (lw_all_tbl q2950)) (lw_all_tbl qs60) (lw_all_tbl q2952) (fun t => rc_t o hT t) wt_0 rfl dX11_next_70 rfl (rs := fun _ => []) (fun _ => rfl) (fun _ _ => ?_)
  refine s_goto (tgt := 311) o dX11_next_73 (by decide) ?_
  exact s_vret o rfl dX11_next_311 (fun _ hh => hh)
noncomputable def t_next_161  (k0 : Int) : Mo TS Int :=
  bnd (ss 6 k0) fun _ =>
  pr 0
theorem st_next_161 {Γ : Gm} {h : CH} {d : Nat} (hT : HT h) (o : Ok Γ "LazyForgeModel" cX11_next 4 (Option.none : Option Jvm.ClassFile.FieldType) (d + 3))   (k0 : Int) (hk0 : R32 k0) : Sx Γ (fun t => (h, t)) (fun a s => mt Γ = (0, a, ((h, s) : Wd))) 161 [] [vI k0, vA (mg Γ) 21] (t_next_161 k0) := by
  unfold t_next_161
  refine r_tpf vI rfl o hT tf_word tj_word (lw_all_tbl q2510) dX11_next_161 hk0 ty_int ?_
  refine s_goto (tgt := 311) o dX11_next_164 (by decide) ?_
  exact s_vret o rfl dX11_next_311 (fun _ hh => hh)
noncomputable def t_next_126  (l1 : Int) : Mo TS Int :=
  bnd (gs 5) fun v1 =>
  bnd (ss 5 (w32 (v1 + 2))) fun _ =>
  if ¬ l1 = 45 then
    if ¬ l1 = 60 then
      t_next_161 21
    else
      t_next_161 22
  else
    t_next_161 20
theorem st_next_126 {Γ : Gm} {h : CH} {d : Nat} (hT : HT h) (o : Ok Γ "LazyForgeModel" cX11_next 4 (Option.none : Option Jvm.ClassFile.FieldType) (d + 3))   (l1 : Int) (hl1 : R32 l1) : Sx Γ (fun t => (h, t)) (fun a s => mt Γ = (0, a, ((h, s) : Wd))) 126 [(0, vA (mg Γ) 21), (1, vI l1)] [] (t_next_126 l1) := by
  unfold t_next_126
  refine s_aload_n o dX11_next_126 rfl 0 rfl ?_
  refine s_dup o dX11_next_127 (vA_cat (mg Γ) 21) ?_
  refine r_tgf vI rfl o hT tf_at tj_at (lw_all_tbl q2509) dX11_next_128 (fun v1 hv1 => ?_)
  refine s_iconst o dX11_next_131 ?_
  refine s_iadd o dX11_next_132 ?_
  refine r_tpf vI rfl o hT tf_at tj_at (lw_all_tbl q2509) dX11_next_133 (w32_R _) ty_int ?_
  refine s_aload_n o dX11_next_136 rfl 0 rfl ?_
  refine s_iload_n o dX11_next_137 rfl 1 rfl ?_
  refine s_bipush o dX11_next_138 rfl ?_
  refine s_icmp_ne (tgt := 148) o dX11_next_140 (by decide) hl1 (r32 rfl) ?_ ?_
  · refine s_iload_n o dX11_next_148 rfl 1 rfl ?_
    refine s_bipush o dX11_next_149 rfl ?_
    refine s_icmp_ne (tgt := 159) o dX11_next_151 (by decide) hl1 (r32 rfl) ?_ ?_
    · refine s_bipush o dX11_next_159 rfl ?_
      refine r_to [] [] rfl ?_
      exact st_next_161 hT o 21 (r32 rfl)
    · refine s_bipush o dX11_next_154 rfl ?_
      refine s_goto (tgt := 161) o dX11_next_156 (by decide) ?_
      refine r_to [] [] rfl ?_
      exact st_next_161 hT o 22 (r32 rfl)
  · refine s_bipush o dX11_next_143 rfl ?_
    refine s_goto (tgt := 161) o dX11_next_145 (by decide) ?_
    refine r_to [] [] rfl ?_
    exact st_next_161 hT o 20 (r32 rfl)
noncomputable def t_next_308  (k0 : Int) : Mo TS Int :=
  bnd (ss 6 k0) fun _ =>
  pr 0
theorem st_next_308 {Γ : Gm} {h : CH} {d : Nat} (hT : HT h) (o : Ok Γ "LazyForgeModel" cX11_next 4 (Option.none : Option Jvm.ClassFile.FieldType) (d + 3))   (k0 : Int) (hk0 : R32 k0) : Sx Γ (fun t => (h, t)) (fun a s => mt Γ = (0, a, ((h, s) : Wd))) 308 [] [vI k0, vA (mg Γ) 21] (t_next_308 k0) := by
  unfold t_next_308
  refine r_tpf vI rfl o hT tf_word tj_word (lw_all_tbl q2510) dX11_next_308 hk0 ty_int ?_
  exact s_vret o rfl dX11_next_311 (fun _ hh => hh)
noncomputable def t_next_284  (l1 : Int) (k0 : Int) : Mo TS Int :=
  bnd (gs 5) fun v1 =>
  bnd (ss 5 (w32 (v1 + 1))) fun _ =>
  if k0 = 0 then
    t_next_308 1
  else
    t_next_308 (w32 (100 + l1))
theorem st_next_284 {Γ : Gm} {h : CH} {d : Nat} (hT : HT h) (o : Ok Γ "LazyForgeModel" cX11_next 4 (Option.none : Option Jvm.ClassFile.FieldType) (d + 3))   (l1 : Int) (k0 : Int) (hl1 : R32 l1) (hk0 : rg .boolean k0) : Sx Γ (fun t => (h, t)) (fun a s => mt Γ = (0, a, ((h, s) : Wd))) 284 [(0, vA (mg Γ) 21), (1, vI l1)] [vI k0] (t_next_284 l1 k0) := by
  unfold t_next_284
  refine r_istore_n o dX11_next_284 rfl rfl ⟨(Nat.ne_of_beq_eq_false rfl), (fun _ => (vA_cat (mg Γ) 21)), ⟨(Nat.ne_of_beq_eq_false rfl), (fun _ => rfl), trivial⟩⟩ ?_
  refine s_aload_n o dX11_next_285 rfl 1 rfl ?_
  refine s_dup o dX11_next_286 (vA_cat (mg Γ) 21) ?_
  refine r_tgf vI rfl o hT tf_at tj_at (lw_all_tbl q2509) dX11_next_287 (fun v1 hv1 => ?_)
  refine s_iconst o dX11_next_290 ?_
  refine s_iadd o dX11_next_291 ?_
  refine r_tpf vI rfl o hT tf_at tj_at (lw_all_tbl q2509) dX11_next_292 (w32_R _) ty_int ?_
  refine s_aload_n o dX11_next_295 rfl 1 rfl ?_
  refine s_iload_n o dX11_next_296 rfl 0 rfl ?_
  refine s_if_eq (tgt := 307) o dX11_next_297 (by decide) (rZ hk0) ?_ ?_
  · refine s_iconst o dX11_next_307 ?_
    refine r_to [] [] rfl ?_
    exact st_next_308 hT o 1 (r32 rfl)
  · refine s_bipush o dX11_next_300 rfl ?_
    refine s_iload_n o dX11_next_302 rfl 2 rfl ?_
    refine s_iadd o dX11_next_303 ?_
    refine s_goto (tgt := 308) o dX11_next_304 (by decide) ?_
    refine r_to [] [] rfl ?_
    exact st_next_308 hT o (w32 (100 + l1)) (w32_R _)
noncomputable def t_next_279  (l1 : Int) : Mo TS Int :=
  t_next_284 l1 1
theorem st_next_279 {Γ : Gm} {h : CH} {d : Nat} (hT : HT h) (o : Ok Γ "LazyForgeModel" cX11_next 4 (Option.none : Option Jvm.ClassFile.FieldType) (d + 3))   (l1 : Int) (hl1 : R32 l1) : Sx Γ (fun t => (h, t)) (fun a s => mt Γ = (0, a, ((h, s) : Wd))) 279 [(0, vA (mg Γ) 21), (1, vI l1)] [] (t_next_279 l1) := by
  unfold t_next_279
  refine s_iconst o dX11_next_279 ?_
  refine s_goto (tgt := 284) o dX11_next_280 (by decide) ?_
  exact st_next_284 hT o l1 1 hl1 (Or.inr rfl)
noncomputable def t_next_226  (l1 : Int) (k0 : Int) : Mo TS Int :=
  if ¬ k0 = 0 then
    t_next_279 l1
  else
    if l1 = 95 then
      t_next_279 l1
    else
      if l1 = 43 then
        t_next_279 l1
      else
        if l1 = 45 then
          t_next_279 l1
        else
          if l1 = 42 then
            t_next_279 l1
          else
            if l1 = 47 then
              t_next_279 l1
            else
              if l1 = 37 then
                t_next_279 l1
              else
                if l1 = 60 then
                  t_next_279 l1
                else
                  if ¬ l1 = 124 then
                    t_next_284 l1 0
                  else
                    t_next_279 l1
theorem st_next_226 {Γ : Gm} {h : CH} {d : Nat} (hT : HT h) (o : Ok Γ "LazyForgeModel" cX11_next 4 (Option.none : Option Jvm.ClassFile.FieldType) (d + 3))   (l1 : Int) (k0 : Int) (hl1 : R32 l1) (hk0 : rg .boolean k0) : Sx Γ (fun t => (h, t)) (fun a s => mt Γ = (0, a, ((h, s) : Wd))) 226 [(0, vA (mg Γ) 21), (1, vI l1)] [vI k0] (t_next_226 l1 k0) := by
  unfold t_next_226
  refine r_istore_n o dX11_next_226 rfl rfl ⟨(Nat.ne_of_beq_eq_false rfl), (fun _ => (vA_cat (mg Γ) 21)), ⟨(Nat.ne_of_beq_eq_false rfl), (fun _ => rfl), trivial⟩⟩ ?_
  refine s_iload_n o dX11_next_227 rfl 0 rfl ?_
  refine s_if_ne (tgt := 279) o dX11_next_228 (by decide) (rZ hk0) ?_ ?_
  · refine r_to [(0, vA (mg Γ) 21), (1, vI l1)] [1, 2] rfl ?_
    exact st_next_279 hT o l1 hl1
  · refine s_iload_n o dX11_next_231 rfl 2 rfl ?_
    refine s_bipush o dX11_next_232 rfl ?_
    refine s_icmp_eq (tgt := 279) o dX11_next_234 (by decide) hl1 (r32 rfl) ?_ ?_
    · refine r_to [(0, vA (mg Γ) 21), (1, vI l1)] [1, 2] rfl ?_
      exact st_next_279 hT o l1 hl1
    · refine s_iload_n o dX11_next_237 rfl 2 rfl ?_
      refine s_bipush o dX11_next_238 rfl ?_
      refine s_icmp_eq (tgt := 279) o dX11_next_240 (by decide) hl1 (r32 rfl) ?_ ?_
      · refine r_to [(0, vA (mg Γ) 21), (1, vI l1)] [1, 2] rfl ?_
        exact st_next_279 hT o l1 hl1
      · refine s_iload_n o dX11_next_243 rfl 2 rfl ?_
        refine s_bipush o dX11_next_244 rfl ?_
        refine s_icmp_eq (tgt := 279) o dX11_next_246 (by decide) hl1 (r32 rfl) ?_ ?_
        · refine r_to [(0, vA (mg Γ) 21), (1, vI l1)] [1, 2] rfl ?_
          exact st_next_279 hT o l1 hl1
        · refine s_iload_n o dX11_next_249 rfl 2 rfl ?_
          refine s_bipush o dX11_next_250 rfl ?_
          refine s_icmp_eq (tgt := 279) o dX11_next_252 (by decide) hl1 (r32 rfl) ?_ ?_
          · refine r_to [(0, vA (mg Γ) 21), (1, vI l1)] [1, 2] rfl ?_
            exact st_next_279 hT o l1 hl1
          · refine s_iload_n o dX11_next_255 rfl 2 rfl ?_
            refine s_bipush o dX11_next_256 rfl ?_
            refine s_icmp_eq (tgt := 279) o dX11_next_258 (by decide) hl1 (r32 rfl) ?_ ?_
            · refine r_to [(0, vA (mg Γ) 21), (1, vI l1)] [1, 2] rfl ?_
              exact st_next_279 hT o l1 hl1
            · refine s_iload_n o dX11_next_261 rfl 2 rfl ?_
              refine s_bipush o dX11_next_262 rfl ?_
              refine s_icmp_eq (tgt := 279) o dX11_next_264 (by decide) hl1 (r32 rfl) ?_ ?_
              · refine r_to [(0, vA (mg Γ) 21), (1, vI l1)] [1, 2] rfl ?_
                exact st_next_279 hT o l1 hl1
              · refine s_iload_n o dX11_next_267 rfl 2 rfl ?_
                refine s_bipush o dX11_next_268 rfl ?_
                refine s_icmp_eq (tgt := 279) o dX11_next_270 (by decide) hl1 (r32 rfl) ?_ ?_
                · refine r_to [(0, vA (mg Γ) 21), (1, vI l1)] [1, 2] rfl ?_
                  exact st_next_279 hT o l1 hl1
                · refine s_iload_n o dX11_next_273 rfl 2 rfl ?_
                  refine s_bipush o dX11_next_274 rfl ?_
                  refine s_icmp_ne (tgt := 283) o dX11_next_276 (by decide) hl1 (r32 rfl) ?_ ?_
                  · refine s_iconst o dX11_next_283 ?_
                    refine r_to [(0, vA (mg Γ) 21), (1, vI l1)] [1, 2] rfl ?_
                    exact st_next_284 hT o l1 0 hl1 (Or.inl rfl)
                  · refine r_to [(0, vA (mg Γ) 21), (1, vI l1)] [1, 2] rfl ?_
                    exact st_next_279 hT o l1 hl1
noncomputable def t_next_221  (l1 : Int) : Mo TS Int :=
  t_next_226 l1 1
theorem st_next_221 {Γ : Gm} {h : CH} {d : Nat} (hT : HT h) (o : Ok Γ "LazyForgeModel" cX11_next 4 (Option.none : Option Jvm.ClassFile.FieldType) (d + 3))   (l1 : Int) (hl1 : R32 l1) : Sx Γ (fun t => (h, t)) (fun a s => mt Γ = (0, a, ((h, s) : Wd))) 221 [(0, vA (mg Γ) 21), (1, vI l1)] [] (t_next_221 l1) := by
  unfold t_next_221
  refine s_iconst o dX11_next_221 ?_
  refine s_goto (tgt := 226) o dX11_next_222 (by decide) ?_
  exact st_next_226 hT o l1 1 hl1 (Or.inr rfl)
noncomputable def t_next_167  (l1 : Int) : Mo TS Int :=
  if l1 = 40 then
    t_next_221 l1
  else
    if l1 = 41 then
      t_next_221 l1
    else
      if l1 = 123 then
        t_next_221 l1
      else
        if l1 = 125 then
          t_next_221 l1
        else
          if l1 = 61 then
            t_next_221 l1
          else
            if l1 = 59 then
              t_next_221 l1
            else
              if l1 = 44 then
                t_next_221 l1
              else
                if l1 = 92 then
                  t_next_221 l1
                else
                  if ¬ l1 = 46 then
                    t_next_226 l1 0
                  else
                    t_next_221 l1
theorem st_next_167 {Γ : Gm} {h : CH} {d : Nat} (hT : HT h) (o : Ok Γ "LazyForgeModel" cX11_next 4 (Option.none : Option Jvm.ClassFile.FieldType) (d + 3))   (l1 : Int) (hl1 : R32 l1) : Sx Γ (fun t => (h, t)) (fun a s => mt Γ = (0, a, ((h, s) : Wd))) 167 [(0, vA (mg Γ) 21), (1, vI l1)] [] (t_next_167 l1) := by
  unfold t_next_167
  refine s_iload_n o dX11_next_167 rfl 1 rfl ?_
  refine s_bipush o dX11_next_168 rfl ?_
  refine s_icmp_eq (tgt := 221) o dX11_next_170 (by decide) hl1 (r32 rfl) ?_ ?_
  · exact st_next_221 hT o l1 hl1
  · refine s_iload_n o dX11_next_173 rfl 1 rfl ?_
    refine s_bipush o dX11_next_174 rfl ?_
    refine s_icmp_eq (tgt := 221) o dX11_next_176 (by decide) hl1 (r32 rfl) ?_ ?_
    · exact st_next_221 hT o l1 hl1
    · refine s_iload_n o dX11_next_179 rfl 1 rfl ?_
      refine s_bipush o dX11_next_180 rfl ?_
      refine s_icmp_eq (tgt := 221) o dX11_next_182 (by decide) hl1 (r32 rfl) ?_ ?_
      · exact st_next_221 hT o l1 hl1
      · refine s_iload_n o dX11_next_185 rfl 1 rfl ?_
        refine s_bipush o dX11_next_186 rfl ?_
        refine s_icmp_eq (tgt := 221) o dX11_next_188 (by decide) hl1 (r32 rfl) ?_ ?_
        · exact st_next_221 hT o l1 hl1
        · refine s_iload_n o dX11_next_191 rfl 1 rfl ?_
          refine s_bipush o dX11_next_192 rfl ?_
          refine s_icmp_eq (tgt := 221) o dX11_next_194 (by decide) hl1 (r32 rfl) ?_ ?_
          · exact st_next_221 hT o l1 hl1
          · refine s_iload_n o dX11_next_197 rfl 1 rfl ?_
            refine s_bipush o dX11_next_198 rfl ?_
            refine s_icmp_eq (tgt := 221) o dX11_next_200 (by decide) hl1 (r32 rfl) ?_ ?_
            · exact st_next_221 hT o l1 hl1
            · refine s_iload_n o dX11_next_203 rfl 1 rfl ?_
              refine s_bipush o dX11_next_204 rfl ?_
              refine s_icmp_eq (tgt := 221) o dX11_next_206 (by decide) hl1 (r32 rfl) ?_ ?_
              · exact st_next_221 hT o l1 hl1
              · refine s_iload_n o dX11_next_209 rfl 1 rfl ?_
                refine s_bipush o dX11_next_210 rfl ?_
                refine s_icmp_eq (tgt := 221) o dX11_next_212 (by decide) hl1 (r32 rfl) ?_ ?_
                · exact st_next_221 hT o l1 hl1
                · refine s_iload_n o dX11_next_215 rfl 1 rfl ?_
                  refine s_bipush o dX11_next_216 rfl ?_
                  refine s_icmp_ne (tgt := 225) o dX11_next_218 (by decide) hl1 (r32 rfl) ?_ ?_
                  · refine s_iconst o dX11_next_225 ?_
                    exact st_next_226 hT o l1 0 hl1 (Or.inl rfl)
                  · exact st_next_221 hT o l1 hl1
noncomputable def t_next_114  (l1 : Int) (l2 : Int) : Mo TS Int :=
  if ¬ l1 = 61 then
    t_next_167 l1
  else
    if ¬ l2 = 61 then
      t_next_167 l1
    else
      t_next_126 l1
theorem st_next_114 {Γ : Gm} {h : CH} {d : Nat} (hT : HT h) (o : Ok Γ "LazyForgeModel" cX11_next 4 (Option.none : Option Jvm.ClassFile.FieldType) (d + 3))   (l1 : Int) (l2 : Int) (hl1 : R32 l1) (hl2 : R32 l2) : Sx Γ (fun t => (h, t)) (fun a s => mt Γ = (0, a, ((h, s) : Wd))) 114 [(0, vA (mg Γ) 21), (1, vI l1), (2, vI l2)] [] (t_next_114 l1 l2) := by
  unfold t_next_114
  refine s_iload_n o dX11_next_114 rfl 1 rfl ?_
  refine s_bipush o dX11_next_115 rfl ?_
  refine s_icmp_ne (tgt := 167) o dX11_next_117 (by decide) hl1 (r32 rfl) ?_ ?_
  · refine r_to [(0, vA (mg Γ) 21), (1, vI l1)] [0, 1] rfl ?_
    exact st_next_167 hT o l1 hl1
  · refine s_iload_n o dX11_next_120 rfl 2 rfl ?_
    refine s_bipush o dX11_next_121 rfl ?_
    refine s_icmp_ne (tgt := 167) o dX11_next_123 (by decide) hl2 (r32 rfl) ?_ ?_
    · refine r_to [(0, vA (mg Γ) 21), (1, vI l1)] [0, 1] rfl ?_
      exact st_next_167 hT o l1 hl1
    · refine r_to [(0, vA (mg Γ) 21), (1, vI l1)] [0, 1] rfl ?_
      exact st_next_126 hT o l1 hl1
noncomputable def t_next_102  (l1 : Int) (l2 : Int) : Mo TS Int :=
  if ¬ l1 = 60 then
    t_next_114 l1 l2
  else
    if l2 = 61 then
      t_next_126 l1
    else
      t_next_114 l1 l2
theorem st_next_102 {Γ : Gm} {h : CH} {d : Nat} (hT : HT h) (o : Ok Γ "LazyForgeModel" cX11_next 4 (Option.none : Option Jvm.ClassFile.FieldType) (d + 3))   (l1 : Int) (l2 : Int) (hl1 : R32 l1) (hl2 : R32 l2) : Sx Γ (fun t => (h, t)) (fun a s => mt Γ = (0, a, ((h, s) : Wd))) 102 [(0, vA (mg Γ) 21), (1, vI l1), (2, vI l2)] [] (t_next_102 l1 l2) := by
  unfold t_next_102
  refine s_iload_n o dX11_next_102 rfl 1 rfl ?_
  refine s_bipush o dX11_next_103 rfl ?_
  refine s_icmp_ne (tgt := 114) o dX11_next_105 (by decide) hl1 (r32 rfl) ?_ ?_
  · exact st_next_114 hT o l1 l2 hl1 hl2
  · refine s_iload_n o dX11_next_108 rfl 2 rfl ?_
    refine s_bipush o dX11_next_109 rfl ?_
    refine s_icmp_eq (tgt := 126) o dX11_next_111 (by decide) hl2 (r32 rfl) ?_ ?_
    · refine r_to [(0, vA (mg Γ) 21), (1, vI l1)] [0, 1] rfl ?_
      exact st_next_126 hT o l1 hl1
    · exact st_next_114 hT o l1 l2 hl1 hl2
noncomputable def t_next : Mo TS Int :=
  bnd (t_passBlanks) fun _ =>
  bnd (gs 5) fun v1 =>
  bnd (ss 7 v1) fun _ =>
  bnd (gs 5) fun v2 =>
  bnd (t_sign v2) fun v3 =>
  bnd (gs 5) fun v4 =>
  bnd (t_sign (w32 (v4 + 1))) fun v5 =>
  bnd (gs 5) fun v6 =>
  bnd (gs 2) fun v7 =>
  if v6 < v7 then
    bnd (t_isSmall v3) fun v8 =>
    if ¬ v8 = 0 then
      t_next_65 v3
    else
      bnd (t_isCapital v3) fun v9 =>
      if v9 = 0 then
        bnd (t_isDigit v3) fun v10 =>
        if v10 = 0 then
          if ¬ v3 = 45 then
            t_next_102 v3 v5
          else
            if v5 = 62 then
              t_next_126 v3
            else
              t_next_102 v3 v5
        else
          bnd (t_readNumber) fun _ =>
          pr 0
      else
        t_next_65 v3
  else
    bnd (ss 6 0) fun _ =>
    pr 0
theorem st_next (g : gC) (d : Nat) (h : CH) (hT : HT h) : SF g yX11_next (Cond.code yX11_next cX11_next 4 (Option.none : Option Jvm.ClassFile.FieldType)) (Option.none : Option Jvm.ClassFile.FieldType) (d + 3) [vA g 21] (fun t => (h, t)) (t_next) := by
  refine SF.of (lv := [(0, vA g 21)]) (by decide) (wt_A wt_0) rfl (by simp only [la_A, la_I, la_J, la_0]) (fun Γ hg hnm o => ?_)
  subst hg
  have o : Ok Γ "LazyForgeModel" cX11_next 4 (Option.none : Option Jvm.ClassFile.FieldType) (d + 3) := o
  unfold t_next
  refine s_aload_n o dX11_next_0 rfl 0 rfl ?_
  refine s_cv (d := d + 2) (C := "LazyForgeModel") (As := []) (st := []) o (st_passBlanks (mg Γ) (d + 1) h hT) mw_X11_passBlanks rfl (Or.inl (lw_all_tbl q2936)) (lw_all_tbl qs58) (lw_all_tbl q2938) (fun t => rc_t o hT t) wt_0 rfl dX11_next_1 rfl (rs := fun _ => []) (fun _ => rfl) (fun _ _ => ?_)
  refine s_aload_n o dX11_next_4 rfl 0 rfl ?_
  refine s_aload_n o dX11_next_5 rfl 0 rfl ?_
  refine r_tgf vI rfl o hT tf_at tj_at (lw_all_tbl q2509) dX11_next_6 (fun v1 hv1 => ?_)
  refine r_tpf vI rfl o hT tf_wordPlace tj_wordPlace (lw_all_tbl q2511) dX11_next_9 hv1 ty_int ?_
  refine s_aload_n o dX11_next_12 rfl 0 rfl ?_
  refine s_aload_n o dX11_next_13 rfl 0 rfl ?_
  refine r_tgf vI rfl o hT tf_at tj_at (lw_all_tbl q2509) dX11_next_14 (fun v2 hv2 => ?_)
  refine s_cv (d := d + 2) (C := "LazyForgeModel") (As := [vI v2]) (st := []) o (st_sign (mg Γ) (d + 2) h hT v2 hv2) mw_X11_sign rfl (Or.inl (lw_all_tbl q2940)) (lw_all_tbl qs59) (lw_all_tbl q2942) (fun t => rc_t o hT t) wt_0 rfl dX11_next_17 rfl (rs := fun r => [vI r]) (fun _ => rfl) (fun v3 hv3 => ?_)
  refine r_istore_n o dX11_next_20 rfl rfl ⟨(Nat.ne_of_beq_eq_false rfl), (fun _ => (vA_cat (mg Γ) 21)), trivial⟩ ?_
  refine s_aload_n o dX11_next_21 rfl 1 rfl ?_
  refine s_aload_n o dX11_next_22 rfl 1 rfl ?_
  refine r_tgf vI rfl o hT tf_at tj_at (lw_all_tbl q2509) dX11_next_23 (fun v4 hv4 => ?_)
  refine s_iconst o dX11_next_26 ?_
  refine s_iadd o dX11_next_27 ?_
  refine s_cv (d := d + 2) (C := "LazyForgeModel") (As := [vI (w32 (v4 + 1))]) (st := []) o (st_sign (mg Γ) (d + 2) h hT (w32 (v4 + 1)) (w32_R _)) mw_X11_sign rfl (Or.inl (lw_all_tbl q2940)) (lw_all_tbl qs59) (lw_all_tbl q2942) (fun t => rc_t o hT t) wt_0 rfl dX11_next_28 rfl (rs := fun r => [vI r]) (fun _ => rfl) (fun v5 hv5 => ?_)
  refine r_istore_n o dX11_next_31 rfl rfl ⟨(Nat.ne_of_beq_eq_false rfl), (fun _ => rfl), ⟨(Nat.ne_of_beq_eq_false rfl), (fun _ => (vA_cat (mg Γ) 21)), trivial⟩⟩ ?_
  refine s_aload_n o dX11_next_32 rfl 2 rfl ?_
  refine r_tgf vI rfl o hT tf_at tj_at (lw_all_tbl q2509) dX11_next_33 (fun v6 hv6 => ?_)
  refine s_aload_n o dX11_next_36 rfl 2 rfl ?_
  refine r_tgf vI rfl o hT tf_size tj_size (lw_all_tbl q2506) dX11_next_37 (fun v7 hv7 => ?_)
  refine s_icmp_lt (tgt := 51) o dX11_next_40 (by decide) hv6 hv7 ?_ ?_
  · refine s_iload_n o dX11_next_51 rfl 1 rfl ?_
    refine s_cs (d := d + 2) (As := [vI v3]) (st := []) o (st_isSmall (mg Γ) (d + 2) h v3 (hv3 _ rfl)) mw_X11_isSmall rfl (Or.inl (lw_all_tbl q2944)) (lw_all_tbl q2945) wt_0 rfl dX11_next_52 rfl (rs := fun r => [vI r]) (fun _ => rfl) (fun v8 hv8 => ?_)
    refine s_if_ne (tgt := 65) o dX11_next_55 (by decide) (rZ (hv8 _ rfl)) ?_ ?_
    · refine r_to [(0, vA (mg Γ) 21), (1, vI v3)] [2, 1] rfl ?_
      exact st_next_65 hT o v3 (hv3 _ rfl)
    · refine s_iload_n o dX11_next_58 rfl 1 rfl ?_
      refine s_cs (d := d + 2) (As := [vI v3]) (st := []) o (st_isCapital (mg Γ) (d + 2) h v3 (hv3 _ rfl)) mw_X11_isCapital rfl (Or.inl (lw_all_tbl q2947)) (lw_all_tbl q2948) wt_0 rfl dX11_next_59 rfl (rs := fun r => [vI r]) (fun _ => rfl) (fun v9 hv9 => ?_)
      refine s_if_eq (tgt := 76) o dX11_next_62 (by decide) (rZ (hv9 _ rfl)) ?_ ?_
      · refine s_iload_n o dX11_next_76 rfl 1 rfl ?_
        refine s_cs (d := d + 2) (As := [vI v3]) (st := []) o (st_isDigit (mg Γ) (d + 2) h v3 (hv3 _ rfl)) mw_X11_isDigit rfl (Or.inl (lw_all_tbl q2954)) (lw_all_tbl q2955) wt_0 rfl dX11_next_77 rfl (rs := fun r => [vI r]) (fun _ => rfl) (fun v10 hv10 => ?_)
        refine s_if_eq (tgt := 90) o dX11_next_80 (by decide) (rZ (hv10 _ rfl)) ?_ ?_
        · refine s_iload_n o dX11_next_90 rfl 1 rfl ?_
          refine s_bipush o dX11_next_91 rfl ?_
          refine s_icmp_ne (tgt := 102) o dX11_next_93 (by decide) (hv3 _ rfl) (r32 rfl) ?_ ?_
          · refine r_to [(0, vA (mg Γ) 21), (1, vI v3), (2, vI v5)] [2, 1, 0] rfl ?_
            exact st_next_102 hT o v3 v5 (hv3 _ rfl) (hv5 _ rfl)
          · refine s_iload_n o dX11_next_96 rfl 0 rfl ?_
            refine s_bipush o dX11_next_97 rfl ?_
            refine s_icmp_eq (tgt := 126) o dX11_next_99 (by decide) (hv5 _ rfl) (r32 rfl) ?_ ?_
            · refine r_to [(0, vA (mg Γ) 21), (1, vI v3)] [2, 1] rfl ?_
              exact st_next_126 hT o v3 (hv3 _ rfl)
            · refine r_to [(0, vA (mg Γ) 21), (1, vI v3), (2, vI v5)] [2, 1, 0] rfl ?_
              exact st_next_102 hT o v3 v5 (hv3 _ rfl) (hv5 _ rfl)
        · refine s_aload_n o dX11_next_83 rfl 2 rfl ?_
          refine s_cv (d := d + 2) (C := "LazyForgeModel") (As := []) (st := []) o (st_readNumber (mg Γ) (d + 1) h hT) mw_X11_readNumber rfl (Or.inl (lw_all_tbl q2960)) (lw_all_tbl qs61) (lw_all_tbl q2962) (fun t => rc_t o hT t) wt_0 rfl dX11_next_84 rfl (rs := fun _ => []) (fun _ => rfl) (fun _ _ => ?_)
          refine s_goto (tgt := 311) o dX11_next_87 (by decide) ?_
          exact s_vret o rfl dX11_next_311 (fun _ hh => hh)
      · refine r_to [(0, vA (mg Γ) 21), (1, vI v3)] [2, 1] rfl ?_
        exact st_next_65 hT o v3 (hv3 _ rfl)
  · refine s_aload_n o dX11_next_43 rfl 2 rfl ?_
    refine s_iconst o dX11_next_44 ?_
    refine r_tpf vI rfl o hT tf_word tj_word (lw_all_tbl q2510) dX11_next_45 (r32 rfl) ty_int ?_
    refine s_goto (tgt := 311) o dX11_next_48 (by decide) ?_
    exact s_vret o rfl dX11_next_311 (fun _ hh => hh)
theorem dX11_judgeAtom_0 : decode cX11_judgeAtom 0 = .ok (.aload_n 0, 1) := by decide +kernel
theorem dX11_judgeAtom_1 : decode cX11_judgeAtom 1 = .ok (.getfield 286, 3) := by decide +kernel
theorem dX11_judgeAtom_4 : decode cX11_judgeAtom 4 = .ok (.iconst 4, 1) := by decide +kernel
theorem dX11_judgeAtom_5 : decode cX11_judgeAtom 5 = .ok (.if_icmp .ne 14, 3) := by decide +kernel
theorem dX11_judgeAtom_8 : decode cX11_judgeAtom 8 = .ok (.aload_n 0, 1) := by decide +kernel
theorem dX11_judgeAtom_9 : decode cX11_judgeAtom 9 = .ok (.aload_n 0, 1) := by decide +kernel
theorem dX11_judgeAtom_10 : decode cX11_judgeAtom 10 = .ok (.getfield 278, 3) := by decide +kernel
theorem dX11_judgeAtom_13 : decode cX11_judgeAtom 13 = .ok (.invokevirtual 396, 3) := by decide +kernel
theorem dX11_judgeAtom_16 : decode cX11_judgeAtom 16 = .ok (.goto 4, 3) := by decide +kernel
theorem dX11_judgeAtom_19 : decode cX11_judgeAtom 19 = .ok (.iconst 0, 1) := by decide +kernel
theorem dX11_judgeAtom_20 : decode cX11_judgeAtom 20 = .ok (.istore_n 1, 1) := by decide +kernel
theorem dX11_judgeAtom_21 : decode cX11_judgeAtom 21 = .ok (.aload_n 0, 1) := by decide +kernel
theorem dX11_judgeAtom_22 : decode cX11_judgeAtom 22 = .ok (.invokevirtual 414, 3) := by decide +kernel
theorem dX11_judgeAtom_25 : decode cX11_judgeAtom 25 = .ok (.aload_n 0, 1) := by decide +kernel
theorem dX11_judgeAtom_26 : decode cX11_judgeAtom 26 = .ok (.getfield 286, 3) := by decide +kernel
theorem dX11_judgeAtom_29 : decode cX11_judgeAtom 29 = .ok (.iconst 4, 1) := by decide +kernel
theorem dX11_judgeAtom_30 : decode cX11_judgeAtom 30 = .ok (.if_icmp .ne 16, 3) := by decide +kernel
theorem dX11_judgeAtom_33 : decode cX11_judgeAtom 33 = .ok (.iload_n 1, 1) := by decide +kernel
theorem dX11_judgeAtom_34 : decode cX11_judgeAtom 34 = .ok (.ifCond .lt 12, 3) := by decide +kernel
theorem dX11_judgeAtom_37 : decode cX11_judgeAtom 37 = .ok (.aload_n 0, 1) := by decide +kernel
theorem dX11_judgeAtom_38 : decode cX11_judgeAtom 38 = .ok (.getfield 62, 3) := by decide +kernel
theorem dX11_judgeAtom_41 : decode cX11_judgeAtom 41 = .ok (.iload_n 1, 1) := by decide +kernel
theorem dX11_judgeAtom_42 : decode cX11_judgeAtom 42 = .ok (.iaload, 1) := by decide +kernel
theorem dX11_judgeAtom_43 : decode cX11_judgeAtom 43 = .ok (.ifCond .gt 10, 3) := by decide +kernel
theorem dX11_judgeAtom_46 : decode cX11_judgeAtom 46 = .ok (.aload_n 0, 1) := by decide +kernel
theorem dX11_judgeAtom_47 : decode cX11_judgeAtom 47 = .ok (.invokevirtual 399, 3) := by decide +kernel
theorem dX11_judgeAtom_50 : decode cX11_judgeAtom 50 = .ok (.ifCond .ne 10, 3) := by decide +kernel
theorem dX11_judgeAtom_53 : decode cX11_judgeAtom 53 = .ok (.aload_n 0, 1) := by decide +kernel
theorem dX11_judgeAtom_54 : decode cX11_judgeAtom 54 = .ok (.invokevirtual 324, 3) := by decide +kernel
theorem dX11_judgeAtom_57 : decode cX11_judgeAtom 57 = .ok (.goto 16, 3) := by decide +kernel
theorem dX11_judgeAtom_60 : decode cX11_judgeAtom 60 = .ok (.iload_n 1, 1) := by decide +kernel
theorem dX11_judgeAtom_61 : decode cX11_judgeAtom 61 = .ok (.ifCond .ge 12, 3) := by decide +kernel
theorem dX11_judgeAtom_64 : decode cX11_judgeAtom 64 = .ok (.aload_n 0, 1) := by decide +kernel
theorem dX11_judgeAtom_65 : decode cX11_judgeAtom 65 = .ok (.iconst 3, 1) := by decide +kernel
theorem dX11_judgeAtom_66 : decode cX11_judgeAtom 66 = .ok (.aload_n 0, 1) := by decide +kernel
theorem dX11_judgeAtom_67 : decode cX11_judgeAtom 67 = .ok (.getfield 275, 3) := by decide +kernel
theorem dX11_judgeAtom_70 : decode cX11_judgeAtom 70 = .ok (.invokevirtual 317, 3) := by decide +kernel
theorem dX11_judgeAtom_73 : decode cX11_judgeAtom 73 = .ok (.return_, 1) := by decide +kernel
theorem mw_X11_judgeAtom : MW yX11_judgeAtom (Cond.code yX11_judgeAtom cX11_judgeAtom 2 (Option.none : Option Jvm.ClassFile.FieldType)) cX11_judgeAtom 2 (Option.none : Option Jvm.ClassFile.FieldType) 0 := ⟨rfl, ⟨(lw_all_tbl q3054), rfl, (lw_all_tbl q173)⟩, rfl, ⟨by decide, by decide⟩, by decide +kernel⟩
noncomputable def t_judgeAtom_53  : Mo TS Int :=
  bnd (t_wrong) fun _ =>
  pr 0
theorem st_judgeAtom_53 {Γ : Gm} {h : CH} {d : Nat} (hT : HT h) (o : Ok Γ "LazyForgeModel" cX11_judgeAtom 2 (Option.none : Option Jvm.ClassFile.FieldType) (d + 3))   : Sx Γ (fun t => (h, t)) (fun a s => mt Γ = (0, a, ((h, s) : Wd))) 53 [(0, vA (mg Γ) 21)] [] (t_judgeAtom_53) := by
  unfold t_judgeAtom_53
  refine s_aload_n o dX11_judgeAtom_53 rfl 0 rfl ?_
  refine s_cv (d := d + 2) (C := "LazyForgeModel") (As := []) (st := []) o (st_wrong (mg Γ) (d + 1) h hT) mw_X11_wrong rfl (Or.inl (lw_all_tbl q2983)) (lw_all_tbl qs66) (lw_all_tbl q2985) (fun t => rc_t o hT t) wt_0 rfl dX11_judgeAtom_54 rfl (rs := fun _ => []) (fun _ => rfl) (fun _ _ => ?_)
  refine s_goto (tgt := 73) o dX11_judgeAtom_57 (by decide) ?_
  exact s_vret o rfl dX11_judgeAtom_73 (fun _ hh => hh)
noncomputable def t_judgeAtom_46  (l1 : Int) : Mo TS Int :=
  bnd (t_isAtom) fun v1 =>
  if ¬ v1 = 0 then
    if 0 ≤ l1 then
      pr 0
    else
      bnd (gs 7) fun v2 =>
      bnd (t_fail 3 v2) fun _ =>
      pr 0
  else
    t_judgeAtom_53
theorem st_judgeAtom_46 {Γ : Gm} {h : CH} {d : Nat} (hT : HT h) (o : Ok Γ "LazyForgeModel" cX11_judgeAtom 2 (Option.none : Option Jvm.ClassFile.FieldType) (d + 3))   (l1 : Int) (hl1 : R32 l1) : Sx Γ (fun t => (h, t)) (fun a s => mt Γ = (0, a, ((h, s) : Wd))) 46 [(0, vA (mg Γ) 21), (1, vI l1)] [] (t_judgeAtom_46 l1) := by
  unfold t_judgeAtom_46
  refine s_aload_n o dX11_judgeAtom_46 rfl 0 rfl ?_
  refine s_cv (d := d + 2) (C := "LazyForgeModel") (As := []) (st := []) o (st_isAtom (mg Γ) (d + 1) h hT) mw_X11_isAtom rfl (Or.inl (lw_all_tbl q3059)) (lw_all_tbl qs85) (lw_all_tbl q3061) (fun t => rc_t o hT t) wt_0 rfl dX11_judgeAtom_47 rfl (rs := fun r => [vI r]) (fun _ => rfl) (fun v1 hv1 => ?_)
  refine s_if_ne (tgt := 60) o dX11_judgeAtom_50 (by decide) (rZ (hv1 _ rfl)) ?_ ?_
  · refine s_iload_n o dX11_judgeAtom_60 rfl 1 rfl ?_
    refine s_if_ge (tgt := 73) o dX11_judgeAtom_61 (by decide) hl1 ?_ ?_
    · exact s_vret o rfl dX11_judgeAtom_73 (fun _ hh => hh)
    · refine s_aload_n o dX11_judgeAtom_64 rfl 0 rfl ?_
      refine s_iconst o dX11_judgeAtom_65 ?_
      refine s_aload_n o dX11_judgeAtom_66 rfl 0 rfl ?_
      refine r_tgf vI rfl o hT tf_wordPlace tj_wordPlace (lw_all_tbl q2511) dX11_judgeAtom_67 (fun v2 hv2 => ?_)
      refine s_cv (d := d + 2) (C := "LazyForgeModel") (As := [vI 3, vI v2]) (st := []) o (st_fail (mg Γ) (d + 2) h hT 3 v2 (r32 rfl) hv2) mw_X11_fail rfl (Or.inl (lw_all_tbl q2975)) (lw_all_tbl qs64) (lw_all_tbl q2977) (fun t => rc_t o hT t) wt_0 rfl dX11_judgeAtom_70 rfl (rs := fun _ => []) (fun _ => rfl) (fun _ _ => ?_)
      exact s_vret o rfl dX11_judgeAtom_73 (fun _ hh => hh)
  · refine r_to [(0, vA (mg Γ) 21)] [0] rfl ?_
    exact st_judgeAtom_53 hT o
noncomputable def t_judgeAtom_20  (k0 : Int) : Mo TS Int :=
  bnd (t_tooDeep) fun _ =>
  bnd (gs 6) fun v1 =>
  if ¬ v1 = 4 then
    t_judgeAtom_46 k0
  else
    if k0 < 0 then
      t_judgeAtom_46 k0
    else
      bnd (rd 33 30 k0) fun v2 =>
      if 0 < v2 then
        t_judgeAtom_53
      else
        t_judgeAtom_46 k0
theorem st_judgeAtom_20 {Γ : Gm} {h : CH} {d : Nat} (hT : HT h) (o : Ok Γ "LazyForgeModel" cX11_judgeAtom 2 (Option.none : Option Jvm.ClassFile.FieldType) (d + 3))   (k0 : Int) (hk0 : R32 k0) : Sx Γ (fun t => (h, t)) (fun a s => mt Γ = (0, a, ((h, s) : Wd))) 20 [(0, vA (mg Γ) 21)] [vI k0] (t_judgeAtom_20 k0) := by
  unfold t_judgeAtom_20
  refine r_istore_n o dX11_judgeAtom_20 rfl rfl ⟨(Nat.ne_of_beq_eq_false rfl), (fun _ => (vA_cat (mg Γ) 21)), trivial⟩ ?_
  refine s_aload_n o dX11_judgeAtom_21 rfl 1 rfl ?_
  refine s_cv (d := d + 2) (C := "LazyForgeModel") (As := []) (st := []) o (st_tooDeep (mg Γ) d h hT) mw_X11_tooDeep rfl (Or.inl (lw_all_tbl q3055)) (lw_all_tbl qs84) (lw_all_tbl q3057) (fun t => rc_t o hT t) wt_0 rfl dX11_judgeAtom_22 rfl (rs := fun _ => []) (fun _ => rfl) (fun _ _ => ?_)
  refine s_aload_n o dX11_judgeAtom_25 rfl 1 rfl ?_
  refine r_tgf vI rfl o hT tf_word tj_word (lw_all_tbl q2510) dX11_judgeAtom_26 (fun v1 hv1 => ?_)
  refine s_iconst o dX11_judgeAtom_29 ?_
  refine s_icmp_ne (tgt := 46) o dX11_judgeAtom_30 (by decide) hv1 (r32 rfl) ?_ ?_
  · refine r_to [(0, vA (mg Γ) 21), (1, vI k0)] [1, 0] rfl ?_
    exact st_judgeAtom_46 hT o k0 hk0
  · refine s_iload_n o dX11_judgeAtom_33 rfl 0 rfl ?_
    refine s_if_lt (tgt := 46) o dX11_judgeAtom_34 (by decide) hk0 ?_ ?_
    · refine r_to [(0, vA (mg Γ) 21), (1, vI k0)] [1, 0] rfl ?_
      exact st_judgeAtom_46 hT o k0 hk0
    · refine s_aload_n o dX11_judgeAtom_37 rfl 1 rfl ?_
      refine s_tga (x := 39) o hT tf_fieldCounts ta_fieldCounts (lw_all_tbl q2537) dX11_judgeAtom_38 ?_
      refine s_iload_n o dX11_judgeAtom_41 rfl 0 rfl ?_
      refine r_tiald o hT tr_fieldCounts hk0 dX11_judgeAtom_42 (fun v2 hv2 => ?_)
      refine s_if_gt (tgt := 53) o dX11_judgeAtom_43 (by decide) hv2 ?_ ?_
      · refine r_to [(0, vA (mg Γ) 21)] [1] rfl ?_
        exact st_judgeAtom_53 hT o
      · refine r_to [(0, vA (mg Γ) 21), (1, vI k0)] [1, 0] rfl ?_
        exact st_judgeAtom_46 hT o k0 hk0
noncomputable def t_judgeAtom : Mo TS Int :=
  bnd (gs 6) fun v1 =>
  if ¬ v1 = 4 then
    t_judgeAtom_20 0
  else
    bnd (gs 8) fun v2 =>
    bnd (t_findConstructor v2) fun v3 =>
    t_judgeAtom_20 v3
theorem st_judgeAtom (g : gC) (d : Nat) (h : CH) (hT : HT h) : SF g yX11_judgeAtom (Cond.code yX11_judgeAtom cX11_judgeAtom 2 (Option.none : Option Jvm.ClassFile.FieldType)) (Option.none : Option Jvm.ClassFile.FieldType) (d + 3) [vA g 21] (fun t => (h, t)) (t_judgeAtom) := by
  refine SF.of (lv := [(0, vA g 21)]) (by decide) (wt_A wt_0) rfl (by simp only [la_A, la_I, la_J, la_0]) (fun Γ hg hnm o => ?_)
  subst hg
  have o : Ok Γ "LazyForgeModel" cX11_judgeAtom 2 (Option.none : Option Jvm.ClassFile.FieldType) (d + 3) := o
  unfold t_judgeAtom
  refine s_aload_n o dX11_judgeAtom_0 rfl 0 rfl ?_
  refine r_tgf vI rfl o hT tf_word tj_word (lw_all_tbl q2510) dX11_judgeAtom_1 (fun v1 hv1 => ?_)
  refine s_iconst o dX11_judgeAtom_4 ?_
  refine s_icmp_ne (tgt := 19) o dX11_judgeAtom_5 (by decide) hv1 (r32 rfl) ?_ ?_
  · refine s_iconst o dX11_judgeAtom_19 ?_
    exact st_judgeAtom_20 hT o 0 (r32 rfl)
  · refine s_aload_n o dX11_judgeAtom_8 rfl 0 rfl ?_
    refine s_aload_n o dX11_judgeAtom_9 rfl 0 rfl ?_
    refine r_tgf vJ rfl o hT tf_wordName tj_wordName (lw_all_tbl q2512) dX11_judgeAtom_10 (fun v2 hv2 => ?_)
    refine s_cv (d := d + 2) (C := "LazyForgeModel") (As := [vJ v2]) (st := []) o (st_findConstructor (mg Γ) (d + 2) h hT v2 hv2) mw_X11_findConstructor rfl (Or.inl (lw_all_tbl q2971)) (lw_all_tbl qs63) (lw_all_tbl q2973) (fun t => rc_t o hT t) wt_0 rfl dX11_judgeAtom_13 rfl (rs := fun r => [vI r]) (fun _ => rfl) (fun v3 hv3 => ?_)
    refine s_goto (tgt := 20) o dX11_judgeAtom_16 (by decide) ?_
    exact st_judgeAtom_20 hT o v3 (hv3 _ rfl)
theorem dX11_find_0 : decode cX11_find 0 = .ok (.aload_n 0, 1) := by decide +kernel
theorem dX11_find_1 : decode cX11_find 1 = .ok (.iconst 0, 1) := by decide +kernel
theorem dX11_find_2 : decode cX11_find 2 = .ok (.putfield 474, 3) := by decide +kernel
theorem dX11_find_5 : decode cX11_find 5 = .ok (.aload_n 0, 1) := by decide +kernel
theorem dX11_find_6 : decode cX11_find 6 = .ok (.iconst 0, 1) := by decide +kernel
theorem dX11_find_7 : decode cX11_find 7 = .ok (.putfield 480, 3) := by decide +kernel
theorem dX11_find_10 : decode cX11_find 10 = .ok (.iconst 0, 1) := by decide +kernel
theorem dX11_find_11 : decode cX11_find 11 = .ok (.istore_n 1, 1) := by decide +kernel
theorem dX11_find_12 : decode cX11_find 12 = .ok (.iload_n 1, 1) := by decide +kernel
theorem dX11_find_13 : decode cX11_find 13 = .ok (.aload_n 0, 1) := by decide +kernel
theorem dX11_find_14 : decode cX11_find 14 = .ok (.getfield 462, 3) := by decide +kernel
theorem dX11_find_17 : decode cX11_find 17 = .ok (.if_icmp .ge 93, 3) := by decide +kernel
theorem dX11_find_20 : decode cX11_find 20 = .ok (.aload_n 0, 1) := by decide +kernel
theorem dX11_find_21 : decode cX11_find 21 = .ok (.iconst 1, 1) := by decide +kernel
theorem dX11_find_22 : decode cX11_find 22 = .ok (.putfield 477, 3) := by decide +kernel
theorem dX11_find_25 : decode cX11_find 25 = .ok (.aload_n 0, 1) := by decide +kernel
theorem dX11_find_26 : decode cX11_find 26 = .ok (.getfield 107, 3) := by decide +kernel
theorem dX11_find_29 : decode cX11_find 29 = .ok (.iconst 0, 1) := by decide +kernel
theorem dX11_find_30 : decode cX11_find 30 = .ok (.iload_n 1, 1) := by decide +kernel
theorem dX11_find_31 : decode cX11_find 31 = .ok (.iastore, 1) := by decide +kernel
theorem dX11_find_32 : decode cX11_find 32 = .ok (.iconst 1, 1) := by decide +kernel
theorem dX11_find_33 : decode cX11_find 33 = .ok (.istore_n 2, 1) := by decide +kernel
theorem dX11_find_34 : decode cX11_find 34 = .ok (.aload_n 0, 1) := by decide +kernel
theorem dX11_find_35 : decode cX11_find 35 = .ok (.iconst 0, 1) := by decide +kernel
theorem dX11_find_36 : decode cX11_find 36 = .ok (.aload_n 0, 1) := by decide +kernel
theorem dX11_find_37 : decode cX11_find 37 = .ok (.getfield 56, 3) := by decide +kernel
theorem dX11_find_40 : decode cX11_find 40 = .ok (.iload_n 1, 1) := by decide +kernel
theorem dX11_find_41 : decode cX11_find 41 = .ok (.iaload, 1) := by decide +kernel
theorem dX11_find_42 : decode cX11_find 42 = .ok (.invokevirtual 505, 3) := by decide +kernel
theorem dX11_find_45 : decode cX11_find 45 = .ok (.aload_n 0, 1) := by decide +kernel
theorem dX11_find_46 : decode cX11_find 46 = .ok (.aload_n 0, 1) := by decide +kernel
theorem dX11_find_47 : decode cX11_find 47 = .ok (.getfield 110, 3) := by decide +kernel
theorem dX11_find_50 : decode cX11_find 50 = .ok (.iconst 0, 1) := by decide +kernel
theorem dX11_find_51 : decode cX11_find 51 = .ok (.iaload, 1) := by decide +kernel
theorem dX11_find_52 : decode cX11_find 52 = .ok (.invokevirtual 508, 3) := by decide +kernel
theorem dX11_find_55 : decode cX11_find 55 = .ok (.iload_n 2, 1) := by decide +kernel
theorem dX11_find_56 : decode cX11_find 56 = .ok (.ifCond .le 48, 3) := by decide +kernel
theorem dX11_find_59 : decode cX11_find 59 = .ok (.aload_n 0, 1) := by decide +kernel
theorem dX11_find_60 : decode cX11_find 60 = .ok (.iload_n 2, 1) := by decide +kernel
theorem dX11_find_61 : decode cX11_find 61 = .ok (.iconst 1, 1) := by decide +kernel
theorem dX11_find_62 : decode cX11_find 62 = .ok (.isub, 1) := by decide +kernel
theorem dX11_find_63 : decode cX11_find 63 = .ok (.invokevirtual 511, 3) := by decide +kernel
theorem dX11_find_66 : decode cX11_find 66 = .ok (.istore_n 3, 1) := by decide +kernel
theorem dX11_find_67 : decode cX11_find 67 = .ok (.iload_n 3, 1) := by decide +kernel
theorem dX11_find_68 : decode cX11_find 68 = .ok (.ifCond .ge 19, 3) := by decide +kernel
theorem dX11_find_71 : decode cX11_find 71 = .ok (.iinc 2 (-1), 3) := by decide +kernel
theorem dX11_find_74 : decode cX11_find 74 = .ok (.aload_n 0, 1) := by decide +kernel
theorem dX11_find_75 : decode cX11_find 75 = .ok (.aload_n 0, 1) := by decide +kernel
theorem dX11_find_76 : decode cX11_find 76 = .ok (.getfield 110, 3) := by decide +kernel
theorem dX11_find_79 : decode cX11_find 79 = .ok (.iload_n 2, 1) := by decide +kernel
theorem dX11_find_80 : decode cX11_find 80 = .ok (.iaload, 1) := by decide +kernel
theorem dX11_find_81 : decode cX11_find 81 = .ok (.invokevirtual 514, 3) := by decide +kernel
theorem dX11_find_84 : decode cX11_find 84 = .ok (.goto 17, 3) := by decide +kernel
theorem dX11_find_87 : decode cX11_find 87 = .ok (.aload_n 0, 1) := by decide +kernel
theorem dX11_find_88 : decode cX11_find 88 = .ok (.iload_n 2, 1) := by decide +kernel
theorem dX11_find_89 : decode cX11_find 89 = .ok (.iload_n 3, 1) := by decide +kernel
theorem dX11_find_90 : decode cX11_find 90 = .ok (.invokevirtual 505, 3) := by decide +kernel
theorem dX11_find_93 : decode cX11_find 93 = .ok (.aload_n 0, 1) := by decide +kernel
theorem dX11_find_94 : decode cX11_find 94 = .ok (.iload_n 3, 1) := by decide +kernel
theorem dX11_find_95 : decode cX11_find 95 = .ok (.invokevirtual 508, 3) := by decide +kernel
theorem dX11_find_98 : decode cX11_find 98 = .ok (.iinc 2 1, 3) := by decide +kernel
theorem dX11_find_101 : decode cX11_find 101 = .ok (.goto (-46), 3) := by decide +kernel
theorem dX11_find_104 : decode cX11_find 104 = .ok (.iinc 1 1, 3) := by decide +kernel
theorem dX11_find_107 : decode cX11_find 107 = .ok (.goto (-95), 3) := by decide +kernel
theorem dX11_find_110 : decode cX11_find 110 = .ok (.return_, 1) := by decide +kernel
theorem mw_X11_find : MW yX11_find (Cond.code yX11_find cX11_find 4 (Option.none : Option Jvm.ClassFile.FieldType)) cX11_find 4 (Option.none : Option Jvm.ClassFile.FieldType) 0 := ⟨rfl, ⟨(lw_all_tbl q3117), rfl, (lw_all_tbl q173)⟩, rfl, ⟨by decide, by decide⟩, by decide +kernel⟩
abbrev okt_find_55 (x : Int × Int) : Prop := R32 x.1 ∧ R32 x.2
abbrev lvt_find_55 (Γ : Gm) (x : Int × Int) : List (Nat × Value) := [(0, vA (mg Γ) 21), (1, vI x.1), (2, vI x.2)]
noncomputable def t_find_101 {A : Type} (k_104 : Int → Mo TS A) (l1 : Int) (l2 : Int) : Mo TS ((Int × Int) ⊕ A) :=
  pr (.inl (l1, l2))
theorem st_find_101 {Γ : Gm} {h : CH} {d : Nat} (hT : HT h) (o : Ok Γ "LazyForgeModel" cX11_find 4 (Option.none : Option Jvm.ClassFile.FieldType) (d + 3)) {A : Type} {K : A → TS → Prop}  (k_104 : Int → Mo TS A) (hk_104 : ∀ (l1 : Int), R32 l1 → Sx Γ (fun t => (h, t)) K 104 [(0, vA (mg Γ) 21), (1, vI l1)] [] (k_104 l1)) (l1 : Int) (l2 : Int) (hl1 : R32 l1) (hl2 : R32 l2) : Sx Γ (fun t => (h, t)) (KL Γ (fun t => (h, t)) okt_find_55 K 55 (lvt_find_55 Γ) []) 101 [(0, vA (mg Γ) 21), (1, vI l1), (2, vI l2)] [] (t_find_101 k_104 l1 l2) := by
  unfold t_find_101
  refine s_goto (tgt := 55) o dX11_find_101 (by decide) ?_
  exact s_back (⟨hl1, hl2⟩) rfl
noncomputable def t_find_55b {A : Type} (k_104 : Int → Mo TS A) (l1 : Int) (l2 : Int) : Mo TS ((Int × Int) ⊕ A) :=
  if l2 ≤ 0 then
    lo (k_104 l1)
  else
    bnd (t_nextChild (w32 (l2 - 1))) fun v1 =>
    if 0 ≤ v1 then
      bnd (t_beginAt l2 v1) fun _ =>
      bnd (t_comeInto v1) fun _ =>
      t_find_101 k_104 l1 (w32 (l2 + 1))
    else
      bnd (rd 60 3200 (w32 (l2 + (-1)))) fun v2 =>
      bnd (t_goOutOf v2) fun _ =>
      t_find_101 k_104 l1 (w32 (l2 + (-1)))
theorem st_find_55b {Γ : Gm} {h : CH} {d : Nat} (hT : HT h) (o : Ok Γ "LazyForgeModel" cX11_find 4 (Option.none : Option Jvm.ClassFile.FieldType) (d + 3)) {A : Type} {K : A → TS → Prop} (k_104 : Int → Mo TS A) (hk_104 : ∀ (l1 : Int), R32 l1 → Sx Γ (fun t => (h, t)) K 104 [(0, vA (mg Γ) 21), (1, vI l1)] [] (k_104 l1)) (l1 : Int) (l2 : Int) (hl1 : R32 l1) (hl2 : R32 l2) : Sx Γ (fun t => (h, t)) (KL Γ (fun t => (h, t)) okt_find_55 K 55 (lvt_find_55 Γ) []) 55 [(0, vA (mg Γ) 21), (1, vI l1), (2, vI l2)] [] (t_find_55b k_104 l1 l2) := by
  unfold t_find_55b
  refine s_iload_n o dX11_find_55 rfl 2 rfl ?_
  refine s_if_le (tgt := 104) o dX11_find_56 (by decide) hl2 ?_ ?_
  · refine r_to [(0, vA (mg Γ) 21), (1, vI l1)] [0, 1] rfl ?_
    exact s_lo (hk_104 l1 hl1)
  · refine s_aload_n o dX11_find_59 rfl 0 rfl ?_
    refine s_iload_n o dX11_find_60 rfl 2 rfl ?_
    refine s_iconst o dX11_find_61 ?_
    refine s_isub o dX11_find_62 ?_
    refine s_cv (d := d + 2) (C := "LazyForgeModel") (As := [vI (w32 (l2 - 1))]) (st := []) o (st_nextChild (mg Γ) (d + 1) h hT (w32 (l2 - 1)) (w32_R _)) mw_X11_nextChild rfl (Or.inl (lw_all_tbl q3145)) (lw_all_tbl qs105) (lw_all_tbl q3147) (fun t => rc_t o hT t) wt_0 rfl dX11_find_63 rfl (rs := fun r => [vI r]) (fun _ => rfl) (fun v1 hv1 => ?_)
    refine r_istore_n o dX11_find_66 rfl rfl ⟨(Nat.ne_of_beq_eq_false rfl), (fun _ => (vA_cat (mg Γ) 21)), ⟨(Nat.ne_of_beq_eq_false rfl), (fun _ => rfl), ⟨(Nat.ne_of_beq_eq_false rfl), (fun _ => rfl), trivial⟩⟩⟩ ?_
    refine s_iload_n o dX11_find_67 rfl 0 rfl ?_
    refine s_if_ge (tgt := 87) o dX11_find_68 (by decide) (hv1 _ rfl) ?_ ?_
    · refine s_aload_n o dX11_find_87 rfl 1 rfl ?_
      refine s_iload_n o dX11_find_88 rfl 3 rfl ?_
      refine s_iload_n o dX11_find_89 rfl 0 rfl ?_
      refine s_cv (d := d + 2) (C := "LazyForgeModel") (As := [vI l2, vI v1]) (st := []) o (st_beginAt (mg Γ) (d + 1) h hT l2 v1 hl2 (hv1 _ rfl)) mw_X11_beginAt rfl (Or.inl (lw_all_tbl q3118)) (lw_all_tbl qs99) (lw_all_tbl q3120) (fun t => rc_t o hT t) wt_0 rfl dX11_find_90 rfl (rs := fun _ => []) (fun _ => rfl) (fun _ _ => ?_)
      refine s_aload_n o dX11_find_93 rfl 1 rfl ?_
      refine s_iload_n o dX11_find_94 rfl 0 rfl ?_
      refine s_cv (d := d + 2) (C := "LazyForgeModel") (As := [vI v1]) (st := []) o (st_comeInto (mg Γ) d h hT v1 (hv1 _ rfl)) mw_X11_comeInto rfl (Or.inl (lw_all_tbl q3125)) (lw_all_tbl qs100) (lw_all_tbl q3127) (fun t => rc_t o hT t) wt_0 rfl dX11_find_95 rfl (rs := fun _ => []) (fun _ => rfl) (fun _ _ => ?_)
      refine r_iinc (j := 3) o dX11_find_98 rfl rfl [(3, vI v1), (0, vA (mg Γ) 21), (1, vI l1)] [0, 1, 2] rfl ⟨(Nat.ne_of_beq_eq_false rfl), (fun _ => rfl), ⟨(Nat.ne_of_beq_eq_false rfl), (fun _ => (vA_cat (mg Γ) 21)), ⟨(Nat.ne_of_beq_eq_false rfl), (fun _ => rfl), trivial⟩⟩⟩ ?_
      refine r_to [(0, vA (mg Γ) 21), (1, vI l1), (2, vI (w32 (l2 + 1)))] [2, 3, 0] rfl ?_
      exact st_find_101 hT o k_104 hk_104 l1 (w32 (l2 + 1)) hl1 (w32_R _)
    · refine r_iinc (j := 3) o dX11_find_71 rfl rfl [(3, vI v1), (0, vA (mg Γ) 21), (1, vI l1)] [0, 1, 2] rfl ⟨(Nat.ne_of_beq_eq_false rfl), (fun _ => rfl), ⟨(Nat.ne_of_beq_eq_false rfl), (fun _ => (vA_cat (mg Γ) 21)), ⟨(Nat.ne_of_beq_eq_false rfl), (fun _ => rfl), trivial⟩⟩⟩ ?_
      refine s_aload_n o dX11_find_74 rfl 2 rfl ?_
      refine s_aload_n o dX11_find_75 rfl 2 rfl ?_
      refine s_tga (x := 55) o hT tf_walk ta_walk (lw_all_tbl q2564) dX11_find_76 ?_
      refine s_iload_n o dX11_find_79 rfl 0 rfl ?_
      refine r_tiald o hT tr_walk (w32_R _) dX11_find_80 (fun v2 hv2 => ?_)
      refine s_cv (d := d + 2) (C := "LazyForgeModel") (As := [vI v2]) (st := []) o (st_goOutOf (mg Γ) (d + 2) h hT v2 hv2) mw_X11_goOutOf rfl (Or.inl (lw_all_tbl q3153)) (lw_all_tbl qs107) (lw_all_tbl q3155) (fun t => rc_t o hT t) wt_0 rfl dX11_find_81 rfl (rs := fun _ => []) (fun _ => rfl) (fun _ _ => ?_)
      refine s_goto (tgt := 101) o dX11_find_84 (by decide) ?_
      refine r_to [(0, vA (mg Γ) 21), (1, vI l1), (2, vI (w32 (l2 + (-1))))] [2, 3, 0] rfl ?_
      exact st_find_101 hT o k_104 hk_104 l1 (w32 (l2 + (-1))) hl1 (w32_R _)
noncomputable def t_find_55 {A : Type} (k_104 : Int → Mo TS A) (l1 : Int) (l2 : Int) : Mo TS A := Loop (fun x => t_find_55b k_104 x.1 x.2) (l1, l2)
theorem st_find_55 {Γ : Gm} {h : CH} {d : Nat} (hT : HT h) (o : Ok Γ "LazyForgeModel" cX11_find 4 (Option.none : Option Jvm.ClassFile.FieldType) (d + 3)) {A : Type} {K : A → TS → Prop} (k_104 : Int → Mo TS A) (hk_104 : ∀ (l1 : Int), R32 l1 → Sx Γ (fun t => (h, t)) K 104 [(0, vA (mg Γ) 21), (1, vI l1)] [] (k_104 l1)) (l1 : Int) (l2 : Int) (hl1 : R32 l1) (hl2 : R32 l2) : Sx Γ (fun t => (h, t)) K 55 [(0, vA (mg Γ) 21), (1, vI l1), (2, vI l2)] [] (t_find_55 k_104 l1 l2) :=
  s_loop okt_find_55 (lvt_find_55 Γ) (fun x hx => st_find_55b hT o k_104 hk_104 x.1 x.2 hx.1 hx.2) (x := (l1, l2)) ⟨hl1, hl2⟩
abbrev okt_find_12 (x : Int) : Prop := R32 x
abbrev lvt_find_12 (Γ : Gm) (x : Int) : List (Nat × Value) := [(0, vA (mg Γ) 21), (1, vI x)]
noncomputable def t_find_12b {A : Type} (k_110 : Mo TS A) (l1 : Int) : Mo TS ((Int) ⊕ A) :=
  bnd (gs 27) fun v1 =>
  if v1 ≤ l1 then
    lo k_110
  else
    bnd (ss 58 1) fun _ =>
    bnd (wr 59 64 0 l1) fun _ =>
    bnd (rd 30 640 l1) fun v2 =>
    bnd (t_beginAt 0 v2) fun _ =>
    bnd (rd 60 3200 0) fun v3 =>
    bnd (t_comeInto v3) fun _ =>
    t_find_55
      (fun v4 => pr (.inl (w32 (v4 + 1)))) l1 1
theorem st_find_12b {Γ : Gm} {h : CH} {d : Nat} (hT : HT h) (o : Ok Γ "LazyForgeModel" cX11_find 4 (Option.none : Option Jvm.ClassFile.FieldType) (d + 3)) {A : Type} {K : A → TS → Prop} (k_110 : Mo TS A) (hk_110 : Sx Γ (fun t => (h, t)) K 110 [] [] (k_110)) (l1 : Int) (hl1 : R32 l1) : Sx Γ (fun t => (h, t)) (KL Γ (fun t => (h, t)) okt_find_12 K 12 (lvt_find_12 Γ) []) 12 [(0, vA (mg Γ) 21), (1, vI l1)] [] (t_find_12b k_110 l1) := by
  unfold t_find_12b
  refine s_iload_n o dX11_find_12 rfl 1 rfl ?_
  refine s_aload_n o dX11_find_13 rfl 0 rfl ?_
  refine r_tgf vI rfl o hT tf_functions tj_functions (lw_all_tbl q2531) dX11_find_14 (fun v1 hv1 => ?_)
  refine s_icmp_ge (tgt := 110) o dX11_find_17 (by decide) hl1 hv1 ?_ ?_
  · refine r_to [] [] rfl ?_
    exact s_lo hk_110
  · refine s_aload_n o dX11_find_20 rfl 0 rfl ?_
    refine s_iconst o dX11_find_21 ?_
    refine r_tpf vI rfl o hT tf_around tj_around (lw_all_tbl q2562) dX11_find_22 (r32 rfl) ty_int ?_
    refine s_aload_n o dX11_find_25 rfl 0 rfl ?_
    refine s_tga (x := 54) o hT tf_arounds ta_arounds (lw_all_tbl q2563) dX11_find_26 ?_
    refine s_iconst o dX11_find_29 ?_
    refine s_iload_n o dX11_find_30 rfl 1 rfl ?_
    refine r_tiast o hT tr_arounds (r32 rfl) hl1 dX11_find_31 ?_
    refine s_iconst o dX11_find_32 ?_
    refine r_istore_n o dX11_find_33 rfl rfl ⟨(Nat.ne_of_beq_eq_false rfl), (fun _ => (vA_cat (mg Γ) 21)), ⟨(Nat.ne_of_beq_eq_false rfl), (fun _ => rfl), trivial⟩⟩ ?_
    refine s_aload_n o dX11_find_34 rfl 1 rfl ?_
    refine s_iconst o dX11_find_35 ?_
    refine s_aload_n o dX11_find_36 rfl 1 rfl ?_
    refine s_tga (x := 37) o hT tf_functionNodes ta_functionNodes (lw_all_tbl q2534) dX11_find_37 ?_
    refine s_iload_n o dX11_find_40 rfl 2 rfl ?_
    refine r_tiald o hT tr_functionNodes hl1 dX11_find_41 (fun v2 hv2 => ?_)
    refine s_cv (d := d + 2) (C := "LazyForgeModel") (As := [vI 0, vI v2]) (st := []) o (st_beginAt (mg Γ) (d + 1) h hT 0 v2 (r32 rfl) hv2) mw_X11_beginAt rfl (Or.inl (lw_all_tbl q3118)) (lw_all_tbl qs99) (lw_all_tbl q3120) (fun t => rc_t o hT t) wt_0 rfl dX11_find_42 rfl (rs := fun _ => []) (fun _ => rfl) (fun _ _ => ?_)
    refine s_aload_n o dX11_find_45 rfl 1 rfl ?_
    refine s_aload_n o dX11_find_46 rfl 1 rfl ?_
    refine s_tga (x := 55) o hT tf_walk ta_walk (lw_all_tbl q2564) dX11_find_47 ?_
    refine s_iconst o dX11_find_50 ?_
    refine r_tiald o hT tr_walk (r32 rfl) dX11_find_51 (fun v3 hv3 => ?_)
    refine s_cv (d := d + 2) (C := "LazyForgeModel") (As := [vI v3]) (st := []) o (st_comeInto (mg Γ) d h hT v3 hv3) mw_X11_comeInto rfl (Or.inl (lw_all_tbl q3125)) (lw_all_tbl qs100) (lw_all_tbl q3127) (fun t => rc_t o hT t) wt_0 rfl dX11_find_52 rfl (rs := fun _ => []) (fun _ => rfl) (fun _ _ => ?_)
    refine r_to [(0, vA (mg Γ) 21), (1, vI l1), (2, vI 1)] [1, 2, 0] rfl ?_
    refine st_find_55 hT o _ ?_ l1 1 hl1 (r32 rfl)
    · intro v4 hv4
      refine r_iinc (j := 1) o dX11_find_104 rfl rfl [(0, vA (mg Γ) 21)] [0] rfl ⟨(Nat.ne_of_beq_eq_false rfl), (fun _ => (vA_cat (mg Γ) 21)), trivial⟩ ?_
      refine s_goto (tgt := 12) o dX11_find_107 (by decide) ?_
      refine r_to [(0, vA (mg Γ) 21), (1, vI (w32 (v4 + 1)))] [1, 0] rfl ?_
      exact s_back (w32_R _) rfl
noncomputable def t_find_12 {A : Type} (k_110 : Mo TS A) (l1 : Int) : Mo TS A := Loop (fun x => t_find_12b k_110 x) l1
theorem st_find_12 {Γ : Gm} {h : CH} {d : Nat} (hT : HT h) (o : Ok Γ "LazyForgeModel" cX11_find 4 (Option.none : Option Jvm.ClassFile.FieldType) (d + 3)) {A : Type} {K : A → TS → Prop} (k_110 : Mo TS A) (hk_110 : Sx Γ (fun t => (h, t)) K 110 [] [] (k_110)) (l1 : Int) (hl1 : R32 l1) : Sx Γ (fun t => (h, t)) K 12 [(0, vA (mg Γ) 21), (1, vI l1)] [] (t_find_12 k_110 l1) :=
  s_loop okt_find_12 (lvt_find_12 Γ) (fun x hx => st_find_12b hT o k_110 hk_110 x hx) (x := l1) hl1
noncomputable def t_find : Mo TS Int :=
  bnd (ss 50 0) fun _ =>
  bnd (ss 55 0) fun _ =>
  t_find_12
    (pr 0) 0
theorem st_find (g : gC) (d : Nat) (h : CH) (hT : HT h) : SF g yX11_find (Cond.code yX11_find cX11_find 4 (Option.none : Option Jvm.ClassFile.FieldType)) (Option.none : Option Jvm.ClassFile.FieldType) (d + 3) [vA g 21] (fun t => (h, t)) (t_find) := by
  refine SF.of (lv := [(0, vA g 21)]) (by decide) (wt_A wt_0) rfl (by simp only [la_A, la_I, la_J, la_0]) (fun Γ hg hnm o => ?_)
  subst hg
  have o : Ok Γ "LazyForgeModel" cX11_find 4 (Option.none : Option Jvm.ClassFile.FieldType) (d + 3) := o
  unfold t_find
  refine s_aload_n o dX11_find_0 rfl 0 rfl ?_
  refine s_iconst o dX11_find_1 ?_
  refine r_tpf vI rfl o hT tf_variables tj_variables (lw_all_tbl q2554) dX11_find_2 (r32 rfl) ty_int ?_
  refine s_aload_n o dX11_find_5 rfl 0 rfl ?_
  refine s_iconst o dX11_find_6 ?_
  refine r_tpf vI rfl o hT tf_seen tj_seen (lw_all_tbl q2559) dX11_find_7 (r32 rfl) ty_int ?_
  refine s_iconst o dX11_find_10 ?_
  refine r_istore_n o dX11_find_11 rfl rfl ⟨(Nat.ne_of_beq_eq_false rfl), (fun _ => (vA_cat (mg Γ) 21)), trivial⟩ ?_
  refine r_to [(0, vA (mg Γ) 21), (1, vI 0)] [1, 0] rfl ?_
  refine st_find_12 hT o _ ?_ 0 (r32 rfl)
  · exact s_vret o rfl dX11_find_110 (fun _ hh => hh)
theorem dX11_bitOfPart_0 : decode cX11_bitOfPart 0 = .ok (.iload_n 1, 1) := by decide +kernel
theorem dX11_bitOfPart_1 : decode cX11_bitOfPart 1 = .ok (.istore_n 3, 1) := by decide +kernel
theorem dX11_bitOfPart_2 : decode cX11_bitOfPart 2 = .ok (.iload_n 3, 1) := by decide +kernel
theorem dX11_bitOfPart_3 : decode cX11_bitOfPart 3 = .ok (.iload_n 2, 1) := by decide +kernel
theorem dX11_bitOfPart_4 : decode cX11_bitOfPart 4 = .ok (.if_icmp .gt 137, 3) := by decide +kernel
theorem dX11_bitOfPart_7 : decode cX11_bitOfPart 7 = .ok (.aload_n 0, 1) := by decide +kernel
theorem dX11_bitOfPart_8 : decode cX11_bitOfPart 8 = .ok (.getfield 119, 3) := by decide +kernel
theorem dX11_bitOfPart_11 : decode cX11_bitOfPart 11 = .ok (.iload_n 3, 1) := by decide +kernel
theorem dX11_bitOfPart_12 : decode cX11_bitOfPart 12 = .ok (.iaload, 1) := by decide +kernel
theorem dX11_bitOfPart_13 : decode cX11_bitOfPart 13 = .ok (.ifCond .ne 41, 3) := by decide +kernel
theorem dX11_bitOfPart_16 : decode cX11_bitOfPart 16 = .ok (.iconst 0, 1) := by decide +kernel
theorem dX11_bitOfPart_17 : decode cX11_bitOfPart 17 = .ok (.istore 4, 2) := by decide +kernel
theorem dX11_bitOfPart_19 : decode cX11_bitOfPart 19 = .ok (.iload 4, 2) := by decide +kernel
theorem dX11_bitOfPart_21 : decode cX11_bitOfPart 21 = .ok (.aload_n 0, 1) := by decide +kernel
theorem dX11_bitOfPart_22 : decode cX11_bitOfPart 22 = .ok (.getfield 122, 3) := by decide +kernel
theorem dX11_bitOfPart_25 : decode cX11_bitOfPart 25 = .ok (.iload_n 3, 1) := by decide +kernel
theorem dX11_bitOfPart_26 : decode cX11_bitOfPart 26 = .ok (.iaload, 1) := by decide +kernel
theorem dX11_bitOfPart_27 : decode cX11_bitOfPart 27 = .ok (.if_icmp .ge 24, 3) := by decide +kernel
theorem dX11_bitOfPart_30 : decode cX11_bitOfPart 30 = .ok (.aload_n 0, 1) := by decide +kernel
theorem dX11_bitOfPart_31 : decode cX11_bitOfPart 31 = .ok (.getfield 184, 3) := by decide +kernel
theorem dX11_bitOfPart_34 : decode cX11_bitOfPart 34 = .ok (.aload_n 0, 1) := by decide +kernel
theorem dX11_bitOfPart_35 : decode cX11_bitOfPart 35 = .ok (.getfield 131, 3) := by decide +kernel
theorem dX11_bitOfPart_38 : decode cX11_bitOfPart 38 = .ok (.iload_n 3, 1) := by decide +kernel
theorem dX11_bitOfPart_39 : decode cX11_bitOfPart 39 = .ok (.iaload, 1) := by decide +kernel
theorem dX11_bitOfPart_40 : decode cX11_bitOfPart 40 = .ok (.iload 4, 2) := by decide +kernel
theorem dX11_bitOfPart_42 : decode cX11_bitOfPart 42 = .ok (.iadd, 1) := by decide +kernel
theorem dX11_bitOfPart_43 : decode cX11_bitOfPart 43 = .ok (.iconst 0, 1) := by decide +kernel
theorem dX11_bitOfPart_44 : decode cX11_bitOfPart 44 = .ok (.bastore, 1) := by decide +kernel
theorem dX11_bitOfPart_45 : decode cX11_bitOfPart 45 = .ok (.iinc 4 1, 3) := by decide +kernel
theorem dX11_bitOfPart_48 : decode cX11_bitOfPart 48 = .ok (.goto (-29), 3) := by decide +kernel
theorem dX11_bitOfPart_51 : decode cX11_bitOfPart 51 = .ok (.goto 84, 3) := by decide +kernel
theorem dX11_bitOfPart_54 : decode cX11_bitOfPart 54 = .ok (.aload_n 0, 1) := by decide +kernel
theorem dX11_bitOfPart_55 : decode cX11_bitOfPart 55 = .ok (.getfield 119, 3) := by decide +kernel
theorem dX11_bitOfPart_58 : decode cX11_bitOfPart 58 = .ok (.iload_n 3, 1) := by decide +kernel
theorem dX11_bitOfPart_59 : decode cX11_bitOfPart 59 = .ok (.iaload, 1) := by decide +kernel
theorem dX11_bitOfPart_60 : decode cX11_bitOfPart 60 = .ok (.iconst 3, 1) := by decide +kernel
theorem dX11_bitOfPart_61 : decode cX11_bitOfPart 61 = .ok (.if_icmp .ne 74, 3) := by decide +kernel
theorem dX11_bitOfPart_64 : decode cX11_bitOfPart 64 = .ok (.iconst 1, 1) := by decide +kernel
theorem dX11_bitOfPart_65 : decode cX11_bitOfPart 65 = .ok (.istore 4, 2) := by decide +kernel
theorem dX11_bitOfPart_67 : decode cX11_bitOfPart 67 = .ok (.iload 4, 2) := by decide +kernel
theorem dX11_bitOfPart_69 : decode cX11_bitOfPart 69 = .ok (.aload_n 0, 1) := by decide +kernel
theorem dX11_bitOfPart_70 : decode cX11_bitOfPart 70 = .ok (.getfield 128, 3) := by decide +kernel
theorem dX11_bitOfPart_73 : decode cX11_bitOfPart 73 = .ok (.iload_n 3, 1) := by decide +kernel
theorem dX11_bitOfPart_74 : decode cX11_bitOfPart 74 = .ok (.iaload, 1) := by decide +kernel
theorem dX11_bitOfPart_75 : decode cX11_bitOfPart 75 = .ok (.if_icmp .ge 60, 3) := by decide +kernel
theorem dX11_bitOfPart_78 : decode cX11_bitOfPart 78 = .ok (.iconst 0, 1) := by decide +kernel
theorem dX11_bitOfPart_79 : decode cX11_bitOfPart 79 = .ok (.istore 5, 2) := by decide +kernel
theorem dX11_bitOfPart_81 : decode cX11_bitOfPart 81 = .ok (.iload 5, 2) := by decide +kernel
theorem dX11_bitOfPart_83 : decode cX11_bitOfPart 83 = .ok (.aload_n 0, 1) := by decide +kernel
theorem dX11_bitOfPart_84 : decode cX11_bitOfPart 84 = .ok (.getfield 159, 3) := by decide +kernel
theorem dX11_bitOfPart_87 : decode cX11_bitOfPart 87 = .ok (.aload_n 0, 1) := by decide +kernel
theorem dX11_bitOfPart_88 : decode cX11_bitOfPart 88 = .ok (.getfield 125, 3) := by decide +kernel
theorem dX11_bitOfPart_91 : decode cX11_bitOfPart 91 = .ok (.iload_n 3, 1) := by decide +kernel
theorem dX11_bitOfPart_92 : decode cX11_bitOfPart 92 = .ok (.iaload, 1) := by decide +kernel
theorem dX11_bitOfPart_93 : decode cX11_bitOfPart 93 = .ok (.iload 4, 2) := by decide +kernel
theorem dX11_bitOfPart_95 : decode cX11_bitOfPart 95 = .ok (.iadd, 1) := by decide +kernel
theorem dX11_bitOfPart_96 : decode cX11_bitOfPart 96 = .ok (.iaload, 1) := by decide +kernel
theorem dX11_bitOfPart_97 : decode cX11_bitOfPart 97 = .ok (.if_icmp .ge 32, 3) := by decide +kernel
theorem dX11_bitOfPart_100 : decode cX11_bitOfPart 100 = .ok (.aload_n 0, 1) := by decide +kernel
theorem dX11_bitOfPart_101 : decode cX11_bitOfPart 101 = .ok (.getfield 184, 3) := by decide +kernel
theorem dX11_bitOfPart_104 : decode cX11_bitOfPart 104 = .ok (.aload_n 0, 1) := by decide +kernel
theorem dX11_bitOfPart_105 : decode cX11_bitOfPart 105 = .ok (.getfield 156, 3) := by decide +kernel
theorem dX11_bitOfPart_108 : decode cX11_bitOfPart 108 = .ok (.aload_n 0, 1) := by decide +kernel
theorem dX11_bitOfPart_109 : decode cX11_bitOfPart 109 = .ok (.getfield 125, 3) := by decide +kernel
theorem dX11_bitOfPart_112 : decode cX11_bitOfPart 112 = .ok (.iload_n 3, 1) := by decide +kernel
theorem dX11_bitOfPart_113 : decode cX11_bitOfPart 113 = .ok (.iaload, 1) := by decide +kernel
theorem dX11_bitOfPart_114 : decode cX11_bitOfPart 114 = .ok (.iload 4, 2) := by decide +kernel
theorem dX11_bitOfPart_116 : decode cX11_bitOfPart 116 = .ok (.iadd, 1) := by decide +kernel
theorem dX11_bitOfPart_117 : decode cX11_bitOfPart 117 = .ok (.iaload, 1) := by decide +kernel
theorem dX11_bitOfPart_118 : decode cX11_bitOfPart 118 = .ok (.iload 5, 2) := by decide +kernel
theorem dX11_bitOfPart_120 : decode cX11_bitOfPart 120 = .ok (.iadd, 1) := by decide +kernel
theorem dX11_bitOfPart_121 : decode cX11_bitOfPart 121 = .ok (.iconst 1, 1) := by decide +kernel
theorem dX11_bitOfPart_122 : decode cX11_bitOfPart 122 = .ok (.bastore, 1) := by decide +kernel
theorem dX11_bitOfPart_123 : decode cX11_bitOfPart 123 = .ok (.iinc 5 1, 3) := by decide +kernel
theorem dX11_bitOfPart_126 : decode cX11_bitOfPart 126 = .ok (.goto (-45), 3) := by decide +kernel
theorem dX11_bitOfPart_129 : decode cX11_bitOfPart 129 = .ok (.iinc 4 1, 3) := by decide +kernel
theorem dX11_bitOfPart_132 : decode cX11_bitOfPart 132 = .ok (.goto (-65), 3) := by decide +kernel
theorem dX11_bitOfPart_135 : decode cX11_bitOfPart 135 = .ok (.iinc 3 1, 3) := by decide +kernel
theorem dX11_bitOfPart_138 : decode cX11_bitOfPart 138 = .ok (.goto (-136), 3) := by decide +kernel
theorem dX11_bitOfPart_141 : decode cX11_bitOfPart 141 = .ok (.iconst 1, 1) := by decide +kernel
theorem dX11_bitOfPart_142 : decode cX11_bitOfPart 142 = .ok (.istore_n 3, 1) := by decide +kernel
theorem dX11_bitOfPart_143 : decode cX11_bitOfPart 143 = .ok (.iload_n 3, 1) := by decide +kernel
theorem dX11_bitOfPart_144 : decode cX11_bitOfPart 144 = .ok (.ifCond .eq 173, 3) := by decide +kernel
theorem dX11_bitOfPart_147 : decode cX11_bitOfPart 147 = .ok (.iconst 0, 1) := by decide +kernel
theorem dX11_bitOfPart_148 : decode cX11_bitOfPart 148 = .ok (.istore_n 3, 1) := by decide +kernel
theorem dX11_bitOfPart_149 : decode cX11_bitOfPart 149 = .ok (.iload_n 1, 1) := by decide +kernel
theorem dX11_bitOfPart_150 : decode cX11_bitOfPart 150 = .ok (.istore 4, 2) := by decide +kernel
theorem dX11_bitOfPart_152 : decode cX11_bitOfPart 152 = .ok (.iload 4, 2) := by decide +kernel
theorem dX11_bitOfPart_154 : decode cX11_bitOfPart 154 = .ok (.iload_n 2, 1) := by decide +kernel
theorem dX11_bitOfPart_155 : decode cX11_bitOfPart 155 = .ok (.if_icmp .gt 22, 3) := by decide +kernel
theorem dX11_bitOfPart_158 : decode cX11_bitOfPart 158 = .ok (.aload_n 0, 1) := by decide +kernel
theorem dX11_bitOfPart_159 : decode cX11_bitOfPart 159 = .ok (.getfield 181, 3) := by decide +kernel
theorem dX11_bitOfPart_162 : decode cX11_bitOfPart 162 = .ok (.iload 4, 2) := by decide +kernel
theorem dX11_bitOfPart_164 : decode cX11_bitOfPart 164 = .ok (.aload_n 0, 1) := by decide +kernel
theorem dX11_bitOfPart_165 : decode cX11_bitOfPart 165 = .ok (.iload 4, 2) := by decide +kernel
theorem dX11_bitOfPart_167 : decode cX11_bitOfPart 167 = .ok (.invokevirtual 561, 3) := by decide +kernel
theorem dX11_bitOfPart_170 : decode cX11_bitOfPart 170 = .ok (.bastore, 1) := by decide +kernel
theorem dX11_bitOfPart_171 : decode cX11_bitOfPart 171 = .ok (.iinc 4 1, 3) := by decide +kernel
theorem dX11_bitOfPart_174 : decode cX11_bitOfPart 174 = .ok (.goto (-22), 3) := by decide +kernel
theorem dX11_bitOfPart_177 : decode cX11_bitOfPart 177 = .ok (.iload_n 1, 1) := by decide +kernel
theorem dX11_bitOfPart_178 : decode cX11_bitOfPart 178 = .ok (.istore 4, 2) := by decide +kernel
theorem dX11_bitOfPart_180 : decode cX11_bitOfPart 180 = .ok (.iload 4, 2) := by decide +kernel
theorem dX11_bitOfPart_182 : decode cX11_bitOfPart 182 = .ok (.iload_n 2, 1) := by decide +kernel
theorem dX11_bitOfPart_183 : decode cX11_bitOfPart 183 = .ok (.if_icmp .gt 131, 3) := by decide +kernel
theorem dX11_bitOfPart_186 : decode cX11_bitOfPart 186 = .ok (.iconst 0, 1) := by decide +kernel
theorem dX11_bitOfPart_187 : decode cX11_bitOfPart 187 = .ok (.istore 5, 2) := by decide +kernel
theorem dX11_bitOfPart_189 : decode cX11_bitOfPart 189 = .ok (.aload_n 0, 1) := by decide +kernel
theorem dX11_bitOfPart_190 : decode cX11_bitOfPart 190 = .ok (.getfield 119, 3) := by decide +kernel
theorem dX11_bitOfPart_193 : decode cX11_bitOfPart 193 = .ok (.iload 4, 2) := by decide +kernel
theorem dX11_bitOfPart_195 : decode cX11_bitOfPart 195 = .ok (.iaload, 1) := by decide +kernel
theorem dX11_bitOfPart_196 : decode cX11_bitOfPart 196 = .ok (.ifCond .ne 112, 3) := by decide +kernel
theorem dX11_bitOfPart_199 : decode cX11_bitOfPart 199 = .ok (.iload 5, 2) := by decide +kernel
theorem dX11_bitOfPart_201 : decode cX11_bitOfPart 201 = .ok (.aload_n 0, 1) := by decide +kernel
theorem dX11_bitOfPart_202 : decode cX11_bitOfPart 202 = .ok (.getfield 122, 3) := by decide +kernel
theorem dX11_bitOfPart_205 : decode cX11_bitOfPart 205 = .ok (.iload 4, 2) := by decide +kernel
theorem dX11_bitOfPart_207 : decode cX11_bitOfPart 207 = .ok (.iaload, 1) := by decide +kernel
theorem dX11_bitOfPart_208 : decode cX11_bitOfPart 208 = .ok (.if_icmp .ge 100, 3) := by decide +kernel
theorem dX11_bitOfPart_211 : decode cX11_bitOfPart 211 = .ok (.aload_n 0, 1) := by decide +kernel
theorem dX11_bitOfPart_212 : decode cX11_bitOfPart 212 = .ok (.getfield 181, 3) := by decide +kernel
theorem dX11_bitOfPart_215 : decode cX11_bitOfPart 215 = .ok (.aload_n 0, 1) := by decide +kernel
theorem dX11_bitOfPart_216 : decode cX11_bitOfPart 216 = .ok (.iload 4, 2) := by decide +kernel
theorem dX11_bitOfPart_218 : decode cX11_bitOfPart 218 = .ok (.iload 5, 2) := by decide +kernel
theorem dX11_bitOfPart_220 : decode cX11_bitOfPart 220 = .ok (.invokevirtual 545, 3) := by decide +kernel
theorem dX11_bitOfPart_223 : decode cX11_bitOfPart 223 = .ok (.baload, 1) := by decide +kernel
theorem dX11_bitOfPart_224 : decode cX11_bitOfPart 224 = .ok (.istore 6, 2) := by decide +kernel
theorem dX11_bitOfPart_226 : decode cX11_bitOfPart 226 = .ok (.iload_n 3, 1) := by decide +kernel
theorem dX11_bitOfPart_227 : decode cX11_bitOfPart 227 = .ok (.ifCond .ne 26, 3) := by decide +kernel
theorem dX11_bitOfPart_230 : decode cX11_bitOfPart 230 = .ok (.iload 6, 2) := by decide +kernel
theorem dX11_bitOfPart_232 : decode cX11_bitOfPart 232 = .ok (.ifCond .eq 25, 3) := by decide +kernel
theorem dX11_bitOfPart_235 : decode cX11_bitOfPart 235 = .ok (.aload_n 0, 1) := by decide +kernel
theorem dX11_bitOfPart_236 : decode cX11_bitOfPart 236 = .ok (.getfield 184, 3) := by decide +kernel
theorem dX11_bitOfPart_239 : decode cX11_bitOfPart 239 = .ok (.aload_n 0, 1) := by decide +kernel
theorem dX11_bitOfPart_240 : decode cX11_bitOfPart 240 = .ok (.getfield 131, 3) := by decide +kernel
theorem dX11_bitOfPart_243 : decode cX11_bitOfPart 243 = .ok (.iload 4, 2) := by decide +kernel
theorem dX11_bitOfPart_245 : decode cX11_bitOfPart 245 = .ok (.iaload, 1) := by decide +kernel
theorem dX11_bitOfPart_246 : decode cX11_bitOfPart 246 = .ok (.iload 5, 2) := by decide +kernel
theorem dX11_bitOfPart_248 : decode cX11_bitOfPart 248 = .ok (.iadd, 1) := by decide +kernel
theorem dX11_bitOfPart_249 : decode cX11_bitOfPart 249 = .ok (.baload, 1) := by decide +kernel
theorem dX11_bitOfPart_250 : decode cX11_bitOfPart 250 = .ok (.ifCond .ne 7, 3) := by decide +kernel
theorem dX11_bitOfPart_253 : decode cX11_bitOfPart 253 = .ok (.iconst 1, 1) := by decide +kernel
theorem dX11_bitOfPart_254 : decode cX11_bitOfPart 254 = .ok (.goto 4, 3) := by decide +kernel
theorem dX11_bitOfPart_257 : decode cX11_bitOfPart 257 = .ok (.iconst 0, 1) := by decide +kernel
theorem dX11_bitOfPart_258 : decode cX11_bitOfPart 258 = .ok (.istore_n 3, 1) := by decide +kernel
theorem dX11_bitOfPart_259 : decode cX11_bitOfPart 259 = .ok (.aload_n 0, 1) := by decide +kernel
theorem dX11_bitOfPart_260 : decode cX11_bitOfPart 260 = .ok (.getfield 184, 3) := by decide +kernel
theorem dX11_bitOfPart_263 : decode cX11_bitOfPart 263 = .ok (.aload_n 0, 1) := by decide +kernel
theorem dX11_bitOfPart_264 : decode cX11_bitOfPart 264 = .ok (.getfield 131, 3) := by decide +kernel
theorem dX11_bitOfPart_267 : decode cX11_bitOfPart 267 = .ok (.iload 4, 2) := by decide +kernel
theorem dX11_bitOfPart_269 : decode cX11_bitOfPart 269 = .ok (.iaload, 1) := by decide +kernel
theorem dX11_bitOfPart_270 : decode cX11_bitOfPart 270 = .ok (.iload 5, 2) := by decide +kernel
theorem dX11_bitOfPart_272 : decode cX11_bitOfPart 272 = .ok (.iadd, 1) := by decide +kernel
theorem dX11_bitOfPart_273 : decode cX11_bitOfPart 273 = .ok (.aload_n 0, 1) := by decide +kernel
theorem dX11_bitOfPart_274 : decode cX11_bitOfPart 274 = .ok (.getfield 184, 3) := by decide +kernel
theorem dX11_bitOfPart_277 : decode cX11_bitOfPart 277 = .ok (.aload_n 0, 1) := by decide +kernel
theorem dX11_bitOfPart_278 : decode cX11_bitOfPart 278 = .ok (.getfield 131, 3) := by decide +kernel
theorem dX11_bitOfPart_281 : decode cX11_bitOfPart 281 = .ok (.iload 4, 2) := by decide +kernel
theorem dX11_bitOfPart_283 : decode cX11_bitOfPart 283 = .ok (.iaload, 1) := by decide +kernel
theorem dX11_bitOfPart_284 : decode cX11_bitOfPart 284 = .ok (.iload 5, 2) := by decide +kernel
theorem dX11_bitOfPart_286 : decode cX11_bitOfPart 286 = .ok (.iadd, 1) := by decide +kernel
theorem dX11_bitOfPart_287 : decode cX11_bitOfPart 287 = .ok (.baload, 1) := by decide +kernel
theorem dX11_bitOfPart_288 : decode cX11_bitOfPart 288 = .ok (.ifCond .ne 8, 3) := by decide +kernel
theorem dX11_bitOfPart_291 : decode cX11_bitOfPart 291 = .ok (.iload 6, 2) := by decide +kernel
theorem dX11_bitOfPart_293 : decode cX11_bitOfPart 293 = .ok (.ifCond .eq 7, 3) := by decide +kernel
theorem dX11_bitOfPart_296 : decode cX11_bitOfPart 296 = .ok (.iconst 1, 1) := by decide +kernel
theorem dX11_bitOfPart_297 : decode cX11_bitOfPart 297 = .ok (.goto 4, 3) := by decide +kernel
theorem dX11_bitOfPart_300 : decode cX11_bitOfPart 300 = .ok (.iconst 0, 1) := by decide +kernel
theorem dX11_bitOfPart_301 : decode cX11_bitOfPart 301 = .ok (.bastore, 1) := by decide +kernel
theorem dX11_bitOfPart_302 : decode cX11_bitOfPart 302 = .ok (.iinc 5 1, 3) := by decide +kernel
theorem dX11_bitOfPart_305 : decode cX11_bitOfPart 305 = .ok (.goto (-116), 3) := by decide +kernel
theorem dX11_bitOfPart_308 : decode cX11_bitOfPart 308 = .ok (.iinc 4 1, 3) := by decide +kernel
theorem dX11_bitOfPart_311 : decode cX11_bitOfPart 311 = .ok (.goto (-131), 3) := by decide +kernel
theorem dX11_bitOfPart_314 : decode cX11_bitOfPart 314 = .ok (.goto (-171), 3) := by decide +kernel
theorem dX11_bitOfPart_317 : decode cX11_bitOfPart 317 = .ok (.aload_n 0, 1) := by decide +kernel
theorem dX11_bitOfPart_318 : decode cX11_bitOfPart 318 = .ok (.getfield 181, 3) := by decide +kernel
theorem dX11_bitOfPart_321 : decode cX11_bitOfPart 321 = .ok (.iload_n 2, 1) := by decide +kernel
theorem dX11_bitOfPart_322 : decode cX11_bitOfPart 322 = .ok (.baload, 1) := by decide +kernel
theorem dX11_bitOfPart_323 : decode cX11_bitOfPart 323 = .ok (.ireturn, 1) := by decide +kernel
theorem mw_X11_bitOfPart : MW yX11_bitOfPart (Cond.code yX11_bitOfPart cX11_bitOfPart 7 (Option.some Jvm.ClassFile.FieldType.boolean)) cX11_bitOfPart 7 (Option.some Jvm.ClassFile.FieldType.boolean) 2 := ⟨rfl, ⟨(lw_all_tbl q3204), rfl, (lw_all_tbl q173)⟩, rfl, ⟨by decide, by decide⟩, by decide +kernel⟩
abbrev okt_bitOfPart_152 (x : Int × Int × Int × Int) : Prop := R32 x.1 ∧ R32 x.2.1 ∧ rg .boolean x.2.2.1 ∧ R32 x.2.2.2
abbrev lvt_bitOfPart_152 (Γ : Gm) (x : Int × Int × Int × Int) : List (Nat × Value) := [(0, vA (mg Γ) 21), (1, vI x.1), (2, vI x.2.1), (3, vI x.2.2.1), (4, vI x.2.2.2)]
noncomputable def t_bitOfPart_152b {A : Type} (k_177 : Int → Int → Int → Mo TS A) (l1 : Int) (l2 : Int) (l3 : Int) (l4 : Int) : Mo TS ((Int × Int × Int × Int) ⊕ A) :=
  if l2 < l4 then
    lo (k_177 l1 l2 l3)
  else
    bnd (t_partBit l4) fun v1 =>
    bnd (wr 86 7000 l4 v1) fun _ =>
    pr (.inl (l1, l2, l3, (w32 (l4 + 1))))
theorem st_bitOfPart_152b {Γ : Gm} {h : CH} {d : Nat} (hT : HT h) (o : Ok Γ "LazyForgeModel" cX11_bitOfPart 7 (Option.some Jvm.ClassFile.FieldType.boolean) (d + 3)) {A : Type} {K : A → TS → Prop} (k_177 : Int → Int → Int → Mo TS A) (hk_177 : ∀ (l1 : Int) (l2 : Int) (l3 : Int), R32 l1 → R32 l2 → rg .boolean l3 → Sx Γ (fun t => (h, t)) K 177 [(0, vA (mg Γ) 21), (1, vI l1), (2, vI l2), (3, vI l3)] [] (k_177 l1 l2 l3)) (l1 : Int) (l2 : Int) (l3 : Int) (l4 : Int) (hl1 : R32 l1) (hl2 : R32 l2) (hl3 : rg .boolean l3) (hl4 : R32 l4) : Sx Γ (fun t => (h, t)) (KL Γ (fun t => (h, t)) okt_bitOfPart_152 K 152 (lvt_bitOfPart_152 Γ) []) 152 [(0, vA (mg Γ) 21), (1, vI l1), (2, vI l2), (3, vI l3), (4, vI l4)] [] (t_bitOfPart_152b k_177 l1 l2 l3 l4) := by
  unfold t_bitOfPart_152b
  refine s_iload o dX11_bitOfPart_152 4 rfl ?_
  refine s_iload_n o dX11_bitOfPart_154 rfl 2 rfl ?_
  refine s_icmp_gt (tgt := 177) o dX11_bitOfPart_155 (by decide) hl4 hl2 ?_ ?_
  · refine r_to [(0, vA (mg Γ) 21), (1, vI l1), (2, vI l2), (3, vI l3)] [0, 1, 2, 3] rfl ?_
    exact s_lo (hk_177 l1 l2 l3 hl1 hl2 hl3)
  · refine s_aload_n o dX11_bitOfPart_158 rfl 0 rfl ?_
    refine s_tga (x := 78) o hT tf_bitOf ta_bitOf (lw_all_tbl q2590) dX11_bitOfPart_159 ?_
    refine s_iload o dX11_bitOfPart_162 4 rfl ?_
    refine s_aload_n o dX11_bitOfPart_164 rfl 0 rfl ?_
    refine s_iload o dX11_bitOfPart_165 4 rfl ?_
    refine s_cv (d := d + 2) (C := "LazyForgeModel") (As := [vI l4]) (st := [vI l4, vA (mg Γ) 78]) o (st_partBit (mg Γ) d h hT l4 hl4) mw_X11_partBit rfl (Or.inl (lw_all_tbl q3205)) (lw_all_tbl qs119) (lw_all_tbl q3207) (fun t => rc_t o hT t) (wt_I (wt_A wt_0)) rfl dX11_bitOfPart_167 rfl (rs := fun r => [vI r, vI l4, vA (mg Γ) 78]) (fun _ => rfl) (fun v1 hv1 => ?_)
    refine r_tzast o hT tr_bitOf hl4 (hv1 _ rfl) dX11_bitOfPart_170 ?_
    refine r_iinc (j := 4) o dX11_bitOfPart_171 rfl rfl [(0, vA (mg Γ) 21), (1, vI l1), (2, vI l2), (3, vI l3)] [0, 1, 2, 3] rfl ⟨(Nat.ne_of_beq_eq_false rfl), (fun _ => (vA_cat (mg Γ) 21)), ⟨(Nat.ne_of_beq_eq_false rfl), (fun _ => rfl), ⟨(Nat.ne_of_beq_eq_false rfl), (fun _ => rfl), ⟨(Nat.ne_of_beq_eq_false rfl), (fun _ => rfl), trivial⟩⟩⟩⟩ ?_
    refine s_goto (tgt := 152) o dX11_bitOfPart_174 (by decide) ?_
    refine r_to [(0, vA (mg Γ) 21), (1, vI l1), (2, vI l2), (3, vI l3), (4, vI (w32 (l4 + 1)))] [1, 2, 3, 4, 0] rfl ?_
    exact s_back (⟨hl1, hl2, hl3, (w32_R _)⟩) rfl
noncomputable def t_bitOfPart_152 {A : Type} (k_177 : Int → Int → Int → Mo TS A) (l1 : Int) (l2 : Int) (l3 : Int) (l4 : Int) : Mo TS A := Loop (fun x => t_bitOfPart_152b k_177 x.1 x.2.1 x.2.2.1 x.2.2.2) (l1, l2, l3, l4)
theorem st_bitOfPart_152 {Γ : Gm} {h : CH} {d : Nat} (hT : HT h) (o : Ok Γ "LazyForgeModel" cX11_bitOfPart 7 (Option.some Jvm.ClassFile.FieldType.boolean) (d + 3)) {A : Type} {K : A → TS → Prop} (k_177 : Int → Int → Int → Mo TS A) (hk_177 : ∀ (l1 : Int) (l2 : Int) (l3 : Int), R32 l1 → R32 l2 → rg .boolean l3 → Sx Γ (fun t => (h, t)) K 177 [(0, vA (mg Γ) 21), (1, vI l1), (2, vI l2), (3, vI l3)] [] (k_177 l1 l2 l3)) (l1 : Int) (l2 : Int) (l3 : Int) (l4 : Int) (hl1 : R32 l1) (hl2 : R32 l2) (hl3 : rg .boolean l3) (hl4 : R32 l4) : Sx Γ (fun t => (h, t)) K 152 [(0, vA (mg Γ) 21), (1, vI l1), (2, vI l2), (3, vI l3), (4, vI l4)] [] (t_bitOfPart_152 k_177 l1 l2 l3 l4) :=
  s_loop okt_bitOfPart_152 (lvt_bitOfPart_152 Γ) (fun x hx => st_bitOfPart_152b hT o k_177 hk_177 x.1 x.2.1 x.2.2.1 x.2.2.2 hx.1 hx.2.1 hx.2.2.1 hx.2.2.2) (x := (l1, l2, l3, l4)) ⟨hl1, hl2, hl3, hl4⟩
abbrev okt_bitOfPart_19 (x : Int × Int × Int × Int) : Prop := R32 x.1 ∧ R32 x.2.1 ∧ R32 x.2.2.1 ∧ R32 x.2.2.2
abbrev lvt_bitOfPart_19 (Γ : Gm) (x : Int × Int × Int × Int) : List (Nat × Value) := [(0, vA (mg Γ) 21), (1, vI x.1), (2, vI x.2.1), (3, vI x.2.2.1), (4, vI x.2.2.2)]
noncomputable def t_bitOfPart_19b {A : Type} (k_51 : Int → Int → Int → Mo TS A) (l1 : Int) (l2 : Int) (l3 : Int) (l4 : Int) : Mo TS ((Int × Int × Int × Int) ⊕ A) :=
  bnd (rd 65 7000 l3) fun v1 =>
  if v1 ≤ l4 then
    lo (k_51 l1 l2 l3)
  else
    bnd (rd 68 7000 l3) fun v2 =>
    bnd (wr 87 640 (w32 (v2 + l4)) 0) fun _ =>
    pr (.inl (l1, l2, l3, (w32 (l4 + 1))))
theorem st_bitOfPart_19b {Γ : Gm} {h : CH} {d : Nat} (hT : HT h) (o : Ok Γ "LazyForgeModel" cX11_bitOfPart 7 (Option.some Jvm.ClassFile.FieldType.boolean) (d + 3)) {A : Type} {K : A → TS → Prop} (k_51 : Int → Int → Int → Mo TS A) (hk_51 : ∀ (l1 : Int) (l2 : Int) (l3 : Int), R32 l1 → R32 l2 → R32 l3 → Sx Γ (fun t => (h, t)) K 51 [(0, vA (mg Γ) 21), (1, vI l1), (2, vI l2), (3, vI l3)] [] (k_51 l1 l2 l3)) (l1 : Int) (l2 : Int) (l3 : Int) (l4 : Int) (hl1 : R32 l1) (hl2 : R32 l2) (hl3 : R32 l3) (hl4 : R32 l4) : Sx Γ (fun t => (h, t)) (KL Γ (fun t => (h, t)) okt_bitOfPart_19 K 19 (lvt_bitOfPart_19 Γ) []) 19 [(0, vA (mg Γ) 21), (1, vI l1), (2, vI l2), (3, vI l3), (4, vI l4)] [] (t_bitOfPart_19b k_51 l1 l2 l3 l4) := by
  unfold t_bitOfPart_19b
  refine s_iload o dX11_bitOfPart_19 4 rfl ?_
  refine s_aload_n o dX11_bitOfPart_21 rfl 0 rfl ?_
  refine s_tga (x := 59) o hT tf_liftValues ta_liftValues (lw_all_tbl q2569) dX11_bitOfPart_22 ?_
  refine s_iload_n o dX11_bitOfPart_25 rfl 3 rfl ?_
  refine r_tiald o hT tr_liftValues hl3 dX11_bitOfPart_26 (fun v1 hv1 => ?_)
  refine s_icmp_ge (tgt := 51) o dX11_bitOfPart_27 (by decide) hl4 hv1 ?_ ?_
  · refine r_to [(0, vA (mg Γ) 21), (1, vI l1), (2, vI l2), (3, vI l3)] [0, 1, 2, 3] rfl ?_
    exact s_lo (hk_51 l1 l2 l3 hl1 hl2 hl3)
  · refine s_aload_n o dX11_bitOfPart_30 rfl 0 rfl ?_
    refine s_tga (x := 79) o hT tf_has ta_has (lw_all_tbl q2591) dX11_bitOfPart_31 ?_
    refine s_aload_n o dX11_bitOfPart_34 rfl 0 rfl ?_
    refine s_tga (x := 62) o hT tf_liftVariables ta_liftVariables (lw_all_tbl q2572) dX11_bitOfPart_35 ?_
    refine s_iload_n o dX11_bitOfPart_38 rfl 3 rfl ?_
    refine r_tiald o hT tr_liftVariables hl3 dX11_bitOfPart_39 (fun v2 hv2 => ?_)
    refine s_iload o dX11_bitOfPart_40 4 rfl ?_
    refine s_iadd o dX11_bitOfPart_42 ?_
    refine s_iconst o dX11_bitOfPart_43 ?_
    refine r_tzast o hT tr_has (w32_R _) (Or.inl rfl) dX11_bitOfPart_44 ?_
    refine r_iinc (j := 4) o dX11_bitOfPart_45 rfl rfl [(0, vA (mg Γ) 21), (1, vI l1), (2, vI l2), (3, vI l3)] [0, 1, 2, 3] rfl ⟨(Nat.ne_of_beq_eq_false rfl), (fun _ => (vA_cat (mg Γ) 21)), ⟨(Nat.ne_of_beq_eq_false rfl), (fun _ => rfl), ⟨(Nat.ne_of_beq_eq_false rfl), (fun _ => rfl), ⟨(Nat.ne_of_beq_eq_false rfl), (fun _ => rfl), trivial⟩⟩⟩⟩ ?_
    refine s_goto (tgt := 19) o dX11_bitOfPart_48 (by decide) ?_
    refine r_to [(0, vA (mg Γ) 21), (1, vI l1), (2, vI l2), (3, vI l3), (4, vI (w32 (l4 + 1)))] [1, 2, 3, 4, 0] rfl ?_
    exact s_back (⟨hl1, hl2, hl3, (w32_R _)⟩) rfl
noncomputable def t_bitOfPart_19 {A : Type} (k_51 : Int → Int → Int → Mo TS A) (l1 : Int) (l2 : Int) (l3 : Int) (l4 : Int) : Mo TS A := Loop (fun x => t_bitOfPart_19b k_51 x.1 x.2.1 x.2.2.1 x.2.2.2) (l1, l2, l3, l4)
theorem st_bitOfPart_19 {Γ : Gm} {h : CH} {d : Nat} (hT : HT h) (o : Ok Γ "LazyForgeModel" cX11_bitOfPart 7 (Option.some Jvm.ClassFile.FieldType.boolean) (d + 3)) {A : Type} {K : A → TS → Prop} (k_51 : Int → Int → Int → Mo TS A) (hk_51 : ∀ (l1 : Int) (l2 : Int) (l3 : Int), R32 l1 → R32 l2 → R32 l3 → Sx Γ (fun t => (h, t)) K 51 [(0, vA (mg Γ) 21), (1, vI l1), (2, vI l2), (3, vI l3)] [] (k_51 l1 l2 l3)) (l1 : Int) (l2 : Int) (l3 : Int) (l4 : Int) (hl1 : R32 l1) (hl2 : R32 l2) (hl3 : R32 l3) (hl4 : R32 l4) : Sx Γ (fun t => (h, t)) K 19 [(0, vA (mg Γ) 21), (1, vI l1), (2, vI l2), (3, vI l3), (4, vI l4)] [] (t_bitOfPart_19 k_51 l1 l2 l3 l4) :=
  s_loop okt_bitOfPart_19 (lvt_bitOfPart_19 Γ) (fun x hx => st_bitOfPart_19b hT o k_51 hk_51 x.1 x.2.1 x.2.2.1 x.2.2.2 hx.1 hx.2.1 hx.2.2.1 hx.2.2.2) (x := (l1, l2, l3, l4)) ⟨hl1, hl2, hl3, hl4⟩
abbrev okt_bitOfPart_81 (x : Int × Int × Int × Int × Int) : Prop := R32 x.1 ∧ R32 x.2.1 ∧ R32 x.2.2.1 ∧ R32 x.2.2.2.1 ∧ R32 x.2.2.2.2
abbrev lvt_bitOfPart_81 (Γ : Gm) (x : Int × Int × Int × Int × Int) : List (Nat × Value) := [(0, vA (mg Γ) 21), (1, vI x.1), (2, vI x.2.1), (3, vI x.2.2.1), (4, vI x.2.2.2.1), (5, vI x.2.2.2.2)]
noncomputable def t_bitOfPart_81b {A : Type} (k_129 : Int → Int → Int → Int → Mo TS A) (l1 : Int) (l2 : Int) (l3 : Int) (l4 : Int) (l5 : Int) : Mo TS ((Int × Int × Int × Int × Int) ⊕ A) :=
  bnd (rd 66 7000 l3) fun v1 =>
  bnd (rd 78 14000 (w32 (v1 + l4))) fun v2 =>
  if v2 ≤ l5 then
    lo (k_129 l1 l2 l3 l4)
  else
    bnd (rd 66 7000 l3) fun v3 =>
    bnd (rd 77 14000 (w32 (v3 + l4))) fun v4 =>
    bnd (wr 87 640 (w32 (v4 + l5)) 1) fun _ =>
    pr (.inl (l1, l2, l3, l4, (w32 (l5 + 1))))
theorem st_bitOfPart_81b {Γ : Gm} {h : CH} {d : Nat} (hT : HT h) (o : Ok Γ "LazyForgeModel" cX11_bitOfPart 7 (Option.some Jvm.ClassFile.FieldType.boolean) (d + 3)) {A : Type} {K : A → TS → Prop} (k_129 : Int → Int → Int → Int → Mo TS A) (hk_129 : ∀ (l1 : Int) (l2 : Int) (l3 : Int) (l4 : Int), R32 l1 → R32 l2 → R32 l3 → R32 l4 → Sx Γ (fun t => (h, t)) K 129 [(0, vA (mg Γ) 21), (1, vI l1), (2, vI l2), (3, vI l3), (4, vI l4)] [] (k_129 l1 l2 l3 l4)) (l1 : Int) (l2 : Int) (l3 : Int) (l4 : Int) (l5 : Int) (hl1 : R32 l1) (hl2 : R32 l2) (hl3 : R32 l3) (hl4 : R32 l4) (hl5 : R32 l5) : Sx Γ (fun t => (h, t)) (KL Γ (fun t => (h, t)) okt_bitOfPart_81 K 81 (lvt_bitOfPart_81 Γ) []) 81 [(0, vA (mg Γ) 21), (1, vI l1), (2, vI l2), (3, vI l3), (4, vI l4), (5, vI l5)] [] (t_bitOfPart_81b k_129 l1 l2 l3 l4 l5) := by
  unfold t_bitOfPart_81b
  refine s_iload o dX11_bitOfPart_81 5 rfl ?_
  refine s_aload_n o dX11_bitOfPart_83 rfl 0 rfl ?_
  refine s_tga (x := 71) o hT tf_branchCounts ta_branchCounts (lw_all_tbl q2582) dX11_bitOfPart_84 ?_
  refine s_aload_n o dX11_bitOfPart_87 rfl 0 rfl ?_
  refine s_tga (x := 60) o hT tf_liftBegins ta_liftBegins (lw_all_tbl q2570) dX11_bitOfPart_88 ?_
  refine s_iload_n o dX11_bitOfPart_91 rfl 3 rfl ?_
  refine r_tiald o hT tr_liftBegins hl3 dX11_bitOfPart_92 (fun v1 hv1 => ?_)
  refine s_iload o dX11_bitOfPart_93 4 rfl ?_
  refine s_iadd o dX11_bitOfPart_95 ?_
  refine r_tiald o hT tr_branchCounts (w32_R _) dX11_bitOfPart_96 (fun v2 hv2 => ?_)
  refine s_icmp_ge (tgt := 129) o dX11_bitOfPart_97 (by decide) hl5 hv2 ?_ ?_
  · refine r_to [(0, vA (mg Γ) 21), (1, vI l1), (2, vI l2), (3, vI l3), (4, vI l4)] [0, 1, 2, 3, 4] rfl ?_
    exact s_lo (hk_129 l1 l2 l3 l4 hl1 hl2 hl3 hl4)
  · refine s_aload_n o dX11_bitOfPart_100 rfl 0 rfl ?_
    refine s_tga (x := 79) o hT tf_has ta_has (lw_all_tbl q2591) dX11_bitOfPart_101 ?_
    refine s_aload_n o dX11_bitOfPart_104 rfl 0 rfl ?_
    refine s_tga (x := 70) o hT tf_branchVariables ta_branchVariables (lw_all_tbl q2581) dX11_bitOfPart_105 ?_
    refine s_aload_n o dX11_bitOfPart_108 rfl 0 rfl ?_
    refine s_tga (x := 60) o hT tf_liftBegins ta_liftBegins (lw_all_tbl q2570) dX11_bitOfPart_109 ?_
    refine s_iload_n o dX11_bitOfPart_112 rfl 3 rfl ?_
    refine r_tiald o hT tr_liftBegins hl3 dX11_bitOfPart_113 (fun v3 hv3 => ?_)
    refine s_iload o dX11_bitOfPart_114 4 rfl ?_
    refine s_iadd o dX11_bitOfPart_116 ?_
    refine r_tiald o hT tr_branchVariables (w32_R _) dX11_bitOfPart_117 (fun v4 hv4 => ?_)
    refine s_iload o dX11_bitOfPart_118 5 rfl ?_
    refine s_iadd o dX11_bitOfPart_120 ?_
    refine s_iconst o dX11_bitOfPart_121 ?_
    refine r_tzast o hT tr_has (w32_R _) (Or.inr rfl) dX11_bitOfPart_122 ?_
    refine r_iinc (j := 5) o dX11_bitOfPart_123 rfl rfl [(0, vA (mg Γ) 21), (1, vI l1), (2, vI l2), (3, vI l3), (4, vI l4)] [0, 1, 2, 3, 4] rfl ⟨(Nat.ne_of_beq_eq_false rfl), (fun _ => (vA_cat (mg Γ) 21)), ⟨(Nat.ne_of_beq_eq_false rfl), (fun _ => rfl), ⟨(Nat.ne_of_beq_eq_false rfl), (fun _ => rfl), ⟨(Nat.ne_of_beq_eq_false rfl), (fun _ => rfl), ⟨(Nat.ne_of_beq_eq_false rfl), (fun _ => rfl), trivial⟩⟩⟩⟩⟩ ?_
    refine s_goto (tgt := 81) o dX11_bitOfPart_126 (by decide) ?_
    refine r_to [(0, vA (mg Γ) 21), (1, vI l1), (2, vI l2), (3, vI l3), (4, vI l4), (5, vI (w32 (l5 + 1)))] [1, 2, 3, 4, 5, 0] rfl ?_
    exact s_back (⟨hl1, hl2, hl3, hl4, (w32_R _)⟩) rfl
noncomputable def t_bitOfPart_81 {A : Type} (k_129 : Int → Int → Int → Int → Mo TS A) (l1 : Int) (l2 : Int) (l3 : Int) (l4 : Int) (l5 : Int) : Mo TS A := Loop (fun x => t_bitOfPart_81b k_129 x.1 x.2.1 x.2.2.1 x.2.2.2.1 x.2.2.2.2) (l1, l2, l3, l4, l5)
theorem st_bitOfPart_81 {Γ : Gm} {h : CH} {d : Nat} (hT : HT h) (o : Ok Γ "LazyForgeModel" cX11_bitOfPart 7 (Option.some Jvm.ClassFile.FieldType.boolean) (d + 3)) {A : Type} {K : A → TS → Prop} (k_129 : Int → Int → Int → Int → Mo TS A) (hk_129 : ∀ (l1 : Int) (l2 : Int) (l3 : Int) (l4 : Int), R32 l1 → R32 l2 → R32 l3 → R32 l4 → Sx Γ (fun t => (h, t)) K 129 [(0, vA (mg Γ) 21), (1, vI l1), (2, vI l2), (3, vI l3), (4, vI l4)] [] (k_129 l1 l2 l3 l4)) (l1 : Int) (l2 : Int) (l3 : Int) (l4 : Int) (l5 : Int) (hl1 : R32 l1) (hl2 : R32 l2) (hl3 : R32 l3) (hl4 : R32 l4) (hl5 : R32 l5) : Sx Γ (fun t => (h, t)) K 81 [(0, vA (mg Γ) 21), (1, vI l1), (2, vI l2), (3, vI l3), (4, vI l4), (5, vI l5)] [] (t_bitOfPart_81 k_129 l1 l2 l3 l4 l5) :=
  s_loop okt_bitOfPart_81 (lvt_bitOfPart_81 Γ) (fun x hx => st_bitOfPart_81b hT o k_129 hk_129 x.1 x.2.1 x.2.2.1 x.2.2.2.1 x.2.2.2.2 hx.1 hx.2.1 hx.2.2.1 hx.2.2.2.1 hx.2.2.2.2) (x := (l1, l2, l3, l4, l5)) ⟨hl1, hl2, hl3, hl4, hl5⟩
abbrev okt_bitOfPart_67 (x : Int × Int × Int × Int) : Prop := R32 x.1 ∧ R32 x.2.1 ∧ R32 x.2.2.1 ∧ R32 x.2.2.2
abbrev lvt_bitOfPart_67 (Γ : Gm) (x : Int × Int × Int × Int) : List (Nat × Value) := [(0, vA (mg Γ) 21), (1, vI x.1), (2, vI x.2.1), (3, vI x.2.2.1), (4, vI x.2.2.2)]
noncomputable def t_bitOfPart_67b {A : Type} (k_135 : Int → Int → Int → Mo TS A) (l1 : Int) (l2 : Int) (l3 : Int) (l4 : Int) : Mo TS ((Int × Int × Int × Int) ⊕ A) :=
  bnd (rd 67 7000 l3) fun v1 =>
  if v1 ≤ l4 then
    lo (k_135 l1 l2 l3)
  else
    t_bitOfPart_81
      (fun v2 v3 v4 v5 => pr (.inl (v2, v3, v4, (w32 (v5 + 1))))) l1 l2 l3 l4 0
theorem st_bitOfPart_67b {Γ : Gm} {h : CH} {d : Nat} (hT : HT h) (o : Ok Γ "LazyForgeModel" cX11_bitOfPart 7 (Option.some Jvm.ClassFile.FieldType.boolean) (d + 3)) {A : Type} {K : A → TS → Prop} (k_135 : Int → Int → Int → Mo TS A) (hk_135 : ∀ (l1 : Int) (l2 : Int) (l3 : Int), R32 l1 → R32 l2 → R32 l3 → Sx Γ (fun t => (h, t)) K 135 [(0, vA (mg Γ) 21), (1, vI l1), (2, vI l2), (3, vI l3)] [] (k_135 l1 l2 l3)) (l1 : Int) (l2 : Int) (l3 : Int) (l4 : Int) (hl1 : R32 l1) (hl2 : R32 l2) (hl3 : R32 l3) (hl4 : R32 l4) : Sx Γ (fun t => (h, t)) (KL Γ (fun t => (h, t)) okt_bitOfPart_67 K 67 (lvt_bitOfPart_67 Γ) []) 67 [(0, vA (mg Γ) 21), (1, vI l1), (2, vI l2), (3, vI l3), (4, vI l4)] [] (t_bitOfPart_67b k_135 l1 l2 l3 l4) := by
  unfold t_bitOfPart_67b
  refine s_iload o dX11_bitOfPart_67 4 rfl ?_
  refine s_aload_n o dX11_bitOfPart_69 rfl 0 rfl ?_
  refine s_tga (x := 61) o hT tf_liftCounts ta_liftCounts (lw_all_tbl q2571) dX11_bitOfPart_70 ?_
  refine s_iload_n o dX11_bitOfPart_73 rfl 3 rfl ?_
  refine r_tiald o hT tr_liftCounts hl3 dX11_bitOfPart_74 (fun v1 hv1 => ?_)
  refine s_icmp_ge (tgt := 135) o dX11_bitOfPart_75 (by decide) hl4 hv1 ?_ ?_
  · refine r_to [(0, vA (mg Γ) 21), (1, vI l1), (2, vI l2), (3, vI l3)] [0, 1, 2, 3] rfl ?_
    exact s_lo (hk_135 l1 l2 l3 hl1 hl2 hl3)
  · refine s_iconst o dX11_bitOfPart_78 ?_
    refine r_istore o dX11_bitOfPart_79 rfl ⟨(Nat.ne_of_beq_eq_false rfl), (fun _ => (vA_cat (mg Γ) 21)), ⟨(Nat.ne_of_beq_eq_false rfl), (fun _ => rfl), ⟨(Nat.ne_of_beq_eq_false rfl), (fun _ => rfl), ⟨(Nat.ne_of_beq_eq_false rfl), (fun _ => rfl), ⟨(Nat.ne_of_beq_eq_false rfl), (fun _ => rfl), trivial⟩⟩⟩⟩⟩ ?_
    refine r_to [(0, vA (mg Γ) 21), (1, vI l1), (2, vI l2), (3, vI l3), (4, vI l4), (5, vI 0)] [1, 2, 3, 4, 5, 0] rfl ?_
    refine st_bitOfPart_81 hT o _ ?_ l1 l2 l3 l4 0 hl1 hl2 hl3 hl4 (r32 rfl)
    · intro v2 v3 v4 v5 hv2 hv3 hv4 hv5
      refine r_iinc (j := 4) o dX11_bitOfPart_129 rfl rfl [(0, vA (mg Γ) 21), (1, vI v2), (2, vI v3), (3, vI v4)] [0, 1, 2, 3] rfl ⟨(Nat.ne_of_beq_eq_false rfl), (fun _ => (vA_cat (mg Γ) 21)), ⟨(Nat.ne_of_beq_eq_false rfl), (fun _ => rfl), ⟨(Nat.ne_of_beq_eq_false rfl), (fun _ => rfl), ⟨(Nat.ne_of_beq_eq_false rfl), (fun _ => rfl), trivial⟩⟩⟩⟩ ?_
      refine s_goto (tgt := 67) o dX11_bitOfPart_132 (by decide) ?_
      refine r_to [(0, vA (mg Γ) 21), (1, vI v2), (2, vI v3), (3, vI v4), (4, vI (w32 (v5 + 1)))] [1, 2, 3, 4, 0] rfl ?_
      exact s_back (⟨hv2, hv3, hv4, (w32_R _)⟩) rfl
noncomputable def t_bitOfPart_67 {A : Type} (k_135 : Int → Int → Int → Mo TS A) (l1 : Int) (l2 : Int) (l3 : Int) (l4 : Int) : Mo TS A := Loop (fun x => t_bitOfPart_67b k_135 x.1 x.2.1 x.2.2.1 x.2.2.2) (l1, l2, l3, l4)
theorem st_bitOfPart_67 {Γ : Gm} {h : CH} {d : Nat} (hT : HT h) (o : Ok Γ "LazyForgeModel" cX11_bitOfPart 7 (Option.some Jvm.ClassFile.FieldType.boolean) (d + 3)) {A : Type} {K : A → TS → Prop} (k_135 : Int → Int → Int → Mo TS A) (hk_135 : ∀ (l1 : Int) (l2 : Int) (l3 : Int), R32 l1 → R32 l2 → R32 l3 → Sx Γ (fun t => (h, t)) K 135 [(0, vA (mg Γ) 21), (1, vI l1), (2, vI l2), (3, vI l3)] [] (k_135 l1 l2 l3)) (l1 : Int) (l2 : Int) (l3 : Int) (l4 : Int) (hl1 : R32 l1) (hl2 : R32 l2) (hl3 : R32 l3) (hl4 : R32 l4) : Sx Γ (fun t => (h, t)) K 67 [(0, vA (mg Γ) 21), (1, vI l1), (2, vI l2), (3, vI l3), (4, vI l4)] [] (t_bitOfPart_67 k_135 l1 l2 l3 l4) :=
  s_loop okt_bitOfPart_67 (lvt_bitOfPart_67 Γ) (fun x hx => st_bitOfPart_67b hT o k_135 hk_135 x.1 x.2.1 x.2.2.1 x.2.2.2 hx.1 hx.2.1 hx.2.2.1 hx.2.2.2) (x := (l1, l2, l3, l4)) ⟨hl1, hl2, hl3, hl4⟩
abbrev okt_bitOfPart_189 (x : Int × Int × Int × Int × Int) : Prop := R32 x.1 ∧ R32 x.2.1 ∧ rg .boolean x.2.2.1 ∧ R32 x.2.2.2.1 ∧ R32 x.2.2.2.2
abbrev lvt_bitOfPart_189 (Γ : Gm) (x : Int × Int × Int × Int × Int) : List (Nat × Value) := [(0, vA (mg Γ) 21), (1, vI x.1), (2, vI x.2.1), (3, vI x.2.2.1), (4, vI x.2.2.2.1), (5, vI x.2.2.2.2)]
noncomputable def t_bitOfPart_301 {A : Type} (k_308 : Int → Int → Int → Int → Mo TS A) (l1 : Int) (l2 : Int) (l3 : Int) (l4 : Int) (l5 : Int) (k0 : Int) (k1 : Int) : Mo TS ((Int × Int × Int × Int × Int) ⊕ A) :=
  bnd (wr 87 640 k1 k0) fun _ =>
  pr (.inl (l1, l2, l3, l4, (w32 (l5 + 1))))
theorem st_bitOfPart_301 {Γ : Gm} {h : CH} {d : Nat} (hT : HT h) (o : Ok Γ "LazyForgeModel" cX11_bitOfPart 7 (Option.some Jvm.ClassFile.FieldType.boolean) (d + 3)) {A : Type} {K : A → TS → Prop}  (k_308 : Int → Int → Int → Int → Mo TS A) (hk_308 : ∀ (l1 : Int) (l2 : Int) (l3 : Int) (l4 : Int), R32 l1 → R32 l2 → rg .boolean l3 → R32 l4 → Sx Γ (fun t => (h, t)) K 308 [(0, vA (mg Γ) 21), (1, vI l1), (2, vI l2), (3, vI l3), (4, vI l4)] [] (k_308 l1 l2 l3 l4)) (l1 : Int) (l2 : Int) (l3 : Int) (l4 : Int) (l5 : Int) (k0 : Int) (k1 : Int) (hl1 : R32 l1) (hl2 : R32 l2) (hl3 : rg .boolean l3) (hl4 : R32 l4) (hl5 : R32 l5) (hk0 : rg .boolean k0) (hk1 : R32 k1) : Sx Γ (fun t => (h, t)) (KL Γ (fun t => (h, t)) okt_bitOfPart_189 K 189 (lvt_bitOfPart_189 Γ) []) 301 [(0, vA (mg Γ) 21), (1, vI l1), (2, vI l2), (3, vI l3), (4, vI l4), (5, vI l5)] [vI k0, vI k1, vA (mg Γ) 79] (t_bitOfPart_301 k_308 l1 l2 l3 l4 l5 k0 k1) := by
  unfold t_bitOfPart_301
  refine r_tzast o hT tr_has hk1 hk0 dX11_bitOfPart_301 ?_
  refine r_iinc (j := 5) o dX11_bitOfPart_302 rfl rfl [(0, vA (mg Γ) 21), (1, vI l1), (2, vI l2), (3, vI l3), (4, vI l4)] [0, 1, 2, 3, 4] rfl ⟨(Nat.ne_of_beq_eq_false rfl), (fun _ => (vA_cat (mg Γ) 21)), ⟨(Nat.ne_of_beq_eq_false rfl), (fun _ => rfl), ⟨(Nat.ne_of_beq_eq_false rfl), (fun _ => rfl), ⟨(Nat.ne_of_beq_eq_false rfl), (fun _ => rfl), ⟨(Nat.ne_of_beq_eq_false rfl), (fun _ => rfl), trivial⟩⟩⟩⟩⟩ ?_
  refine s_goto (tgt := 189) o dX11_bitOfPart_305 (by decide) ?_
  refine r_to [(0, vA (mg Γ) 21), (1, vI l1), (2, vI l2), (3, vI l3), (4, vI l4), (5, vI (w32 (l5 + 1)))] [1, 2, 3, 4, 5, 0] rfl ?_
  exact s_back (⟨hl1, hl2, hl3, hl4, (w32_R _)⟩) rfl
noncomputable def t_bitOfPart_296 {A : Type} (k_308 : Int → Int → Int → Int → Mo TS A) (l1 : Int) (l2 : Int) (l3 : Int) (l4 : Int) (l5 : Int) (k0 : Int) : Mo TS ((Int × Int × Int × Int × Int) ⊕ A) :=
  t_bitOfPart_301 k_308 l1 l2 l3 l4 l5 1 k0
theorem st_bitOfPart_296 {Γ : Gm} {h : CH} {d : Nat} (hT : HT h) (o : Ok Γ "LazyForgeModel" cX11_bitOfPart 7 (Option.some Jvm.ClassFile.FieldType.boolean) (d + 3)) {A : Type} {K : A → TS → Prop}  (k_308 : Int → Int → Int → Int → Mo TS A) (hk_308 : ∀ (l1 : Int) (l2 : Int) (l3 : Int) (l4 : Int), R32 l1 → R32 l2 → rg .boolean l3 → R32 l4 → Sx Γ (fun t => (h, t)) K 308 [(0, vA (mg Γ) 21), (1, vI l1), (2, vI l2), (3, vI l3), (4, vI l4)] [] (k_308 l1 l2 l3 l4)) (l1 : Int) (l2 : Int) (l3 : Int) (l4 : Int) (l5 : Int) (k0 : Int) (hl1 : R32 l1) (hl2 : R32 l2) (hl3 : rg .boolean l3) (hl4 : R32 l4) (hl5 : R32 l5) (hk0 : R32 k0) : Sx Γ (fun t => (h, t)) (KL Γ (fun t => (h, t)) okt_bitOfPart_189 K 189 (lvt_bitOfPart_189 Γ) []) 296 [(0, vA (mg Γ) 21), (1, vI l1), (2, vI l2), (3, vI l3), (4, vI l4), (5, vI l5)] [vI k0, vA (mg Γ) 79] (t_bitOfPart_296 k_308 l1 l2 l3 l4 l5 k0) := by
  unfold t_bitOfPart_296
  refine s_iconst o dX11_bitOfPart_296 ?_
  refine s_goto (tgt := 301) o dX11_bitOfPart_297 (by decide) ?_
  exact st_bitOfPart_301 hT o k_308 hk_308 l1 l2 l3 l4 l5 1 k0 hl1 hl2 hl3 hl4 hl5 (Or.inr rfl) hk0
noncomputable def t_bitOfPart_258 {A : Type} (k_308 : Int → Int → Int → Int → Mo TS A) (l1 : Int) (l2 : Int) (l4 : Int) (l5 : Int) (l6 : Int) (k0 : Int) : Mo TS ((Int × Int × Int × Int × Int) ⊕ A) :=
  bnd (rd 68 7000 l4) fun v1 =>
  bnd (rd 68 7000 l4) fun v2 =>
  bnd (rd 87 640 (w32 (v2 + l5))) fun v3 =>
  if ¬ v3 = 0 then
    t_bitOfPart_296 k_308 l1 l2 k0 l4 l5 (w32 (v1 + l5))
  else
    if l6 = 0 then
      t_bitOfPart_301 k_308 l1 l2 k0 l4 l5 0 (w32 (v1 + l5))
    else
      t_bitOfPart_296 k_308 l1 l2 k0 l4 l5 (w32 (v1 + l5))
theorem st_bitOfPart_258 {Γ : Gm} {h : CH} {d : Nat} (hT : HT h) (o : Ok Γ "LazyForgeModel" cX11_bitOfPart 7 (Option.some Jvm.ClassFile.FieldType.boolean) (d + 3)) {A : Type} {K : A → TS → Prop}  (k_308 : Int → Int → Int → Int → Mo TS A) (hk_308 : ∀ (l1 : Int) (l2 : Int) (l3 : Int) (l4 : Int), R32 l1 → R32 l2 → rg .boolean l3 → R32 l4 → Sx Γ (fun t => (h, t)) K 308 [(0, vA (mg Γ) 21), (1, vI l1), (2, vI l2), (3, vI l3), (4, vI l4)] [] (k_308 l1 l2 l3 l4)) (l1 : Int) (l2 : Int) (l4 : Int) (l5 : Int) (l6 : Int) (k0 : Int) (hl1 : R32 l1) (hl2 : R32 l2) (hl4 : R32 l4) (hl5 : R32 l5) (hl6 : rg .boolean l6) (hk0 : rg .boolean k0) : Sx Γ (fun t => (h, t)) (KL Γ (fun t => (h, t)) okt_bitOfPart_189 K 189 (lvt_bitOfPart_189 Γ) []) 258 [(0, vA (mg Γ) 21), (1, vI l1), (2, vI l2), (4, vI l4), (5, vI l5), (6, vI l6)] [vI k0] (t_bitOfPart_258 k_308 l1 l2 l4 l5 l6 k0) := by
  unfold t_bitOfPart_258
  refine r_istore_n o dX11_bitOfPart_258 rfl rfl ⟨(Nat.ne_of_beq_eq_false rfl), (fun _ => (vA_cat (mg Γ) 21)), ⟨(Nat.ne_of_beq_eq_false rfl), (fun _ => rfl), ⟨(Nat.ne_of_beq_eq_false rfl), (fun _ => rfl), ⟨(Nat.ne_of_beq_eq_false rfl), (fun _ => rfl), ⟨(Nat.ne_of_beq_eq_false rfl), (fun _ => rfl), ⟨(Nat.ne_of_beq_eq_false rfl), (fun _ => rfl), trivial⟩⟩⟩⟩⟩⟩ ?_
  refine s_aload_n o dX11_bitOfPart_259 rfl 1 rfl ?_
  refine s_tga (x := 79) o hT tf_has ta_has (lw_all_tbl q2591) dX11_bitOfPart_260 ?_
  refine s_aload_n o dX11_bitOfPart_263 rfl 1 rfl ?_
  refine s_tga (x := 62) o hT tf_liftVariables ta_liftVariables (lw_all_tbl q2572) dX11_bitOfPart_264 ?_
  refine s_iload o dX11_bitOfPart_267 4 rfl ?_
  refine r_tiald o hT tr_liftVariables hl4 dX11_bitOfPart_269 (fun v1 hv1 => ?_)
  refine s_iload o dX11_bitOfPart_270 5 rfl ?_
  refine s_iadd o dX11_bitOfPart_272 ?_
  refine s_aload_n o dX11_bitOfPart_273 rfl 1 rfl ?_
  refine s_tga (x := 79) o hT tf_has ta_has (lw_all_tbl q2591) dX11_bitOfPart_274 ?_
  refine s_aload_n o dX11_bitOfPart_277 rfl 1 rfl ?_
  refine s_tga (x := 62) o hT tf_liftVariables ta_liftVariables (lw_all_tbl q2572) dX11_bitOfPart_278 ?_
  refine s_iload o dX11_bitOfPart_281 4 rfl ?_
  refine r_tiald o hT tr_liftVariables hl4 dX11_bitOfPart_283 (fun v2 hv2 => ?_)
  refine s_iload o dX11_bitOfPart_284 5 rfl ?_
  refine s_iadd o dX11_bitOfPart_286 ?_
  refine r_tzald o hT tr_has (w32_R _) dX11_bitOfPart_287 (fun v3 hv3 => ?_)
  refine s_if_ne (tgt := 296) o dX11_bitOfPart_288 (by decide) (rZ hv3) ?_ ?_
  · refine r_to [(0, vA (mg Γ) 21), (1, vI l1), (2, vI l2), (3, vI k0), (4, vI l4), (5, vI l5)] [1, 2, 3, 0, 4, 5] rfl ?_
    exact st_bitOfPart_296 hT o k_308 hk_308 l1 l2 k0 l4 l5 (w32 (v1 + l5)) hl1 hl2 hk0 hl4 hl5 (w32_R _)
  · refine s_iload o dX11_bitOfPart_291 6 rfl ?_
    refine s_if_eq (tgt := 300) o dX11_bitOfPart_293 (by decide) (rZ hl6) ?_ ?_
    · refine s_iconst o dX11_bitOfPart_300 ?_
      refine r_to [(0, vA (mg Γ) 21), (1, vI l1), (2, vI l2), (3, vI k0), (4, vI l4), (5, vI l5)] [1, 2, 3, 0, 4, 5] rfl ?_
      exact st_bitOfPart_301 hT o k_308 hk_308 l1 l2 k0 l4 l5 0 (w32 (v1 + l5)) hl1 hl2 hk0 hl4 hl5 (Or.inl rfl) (w32_R _)
    · refine r_to [(0, vA (mg Γ) 21), (1, vI l1), (2, vI l2), (3, vI k0), (4, vI l4), (5, vI l5)] [1, 2, 3, 0, 4, 5] rfl ?_
      exact st_bitOfPart_296 hT o k_308 hk_308 l1 l2 k0 l4 l5 (w32 (v1 + l5)) hl1 hl2 hk0 hl4 hl5 (w32_R _)
noncomputable def t_bitOfPart_253 {A : Type} (k_308 : Int → Int → Int → Int → Mo TS A) (l1 : Int) (l2 : Int) (l4 : Int) (l5 : Int) (l6 : Int) : Mo TS ((Int × Int × Int × Int × Int) ⊕ A) :=
  t_bitOfPart_258 k_308 l1 l2 l4 l5 l6 1
theorem st_bitOfPart_253 {Γ : Gm} {h : CH} {d : Nat} (hT : HT h) (o : Ok Γ "LazyForgeModel" cX11_bitOfPart 7 (Option.some Jvm.ClassFile.FieldType.boolean) (d + 3)) {A : Type} {K : A → TS → Prop}  (k_308 : Int → Int → Int → Int → Mo TS A) (hk_308 : ∀ (l1 : Int) (l2 : Int) (l3 : Int) (l4 : Int), R32 l1 → R32 l2 → rg .boolean l3 → R32 l4 → Sx Γ (fun t => (h, t)) K 308 [(0, vA (mg Γ) 21), (1, vI l1), (2, vI l2), (3, vI l3), (4, vI l4)] [] (k_308 l1 l2 l3 l4)) (l1 : Int) (l2 : Int) (l4 : Int) (l5 : Int) (l6 : Int) (hl1 : R32 l1) (hl2 : R32 l2) (hl4 : R32 l4) (hl5 : R32 l5) (hl6 : rg .boolean l6) : Sx Γ (fun t => (h, t)) (KL Γ (fun t => (h, t)) okt_bitOfPart_189 K 189 (lvt_bitOfPart_189 Γ) []) 253 [(0, vA (mg Γ) 21), (1, vI l1), (2, vI l2), (4, vI l4), (5, vI l5), (6, vI l6)] [] (t_bitOfPart_253 k_308 l1 l2 l4 l5 l6) := by
  unfold t_bitOfPart_253
  refine s_iconst o dX11_bitOfPart_253 ?_
  refine s_goto (tgt := 258) o dX11_bitOfPart_254 (by decide) ?_
  exact st_bitOfPart_258 hT o k_308 hk_308 l1 l2 l4 l5 l6 1 hl1 hl2 hl4 hl5 hl6 (Or.inr rfl)
noncomputable def t_bitOfPart_257 {A : Type} (k_308 : Int → Int → Int → Int → Mo TS A) (l1 : Int) (l2 : Int) (l4 : Int) (l5 : Int) (l6 : Int) : Mo TS ((Int × Int × Int × Int × Int) ⊕ A) :=
  t_bitOfPart_258 k_308 l1 l2 l4 l5 l6 0
theorem st_bitOfPart_257 {Γ : Gm} {h : CH} {d : Nat} (hT : HT h) (o : Ok Γ "LazyForgeModel" cX11_bitOfPart 7 (Option.some Jvm.ClassFile.FieldType.boolean) (d + 3)) {A : Type} {K : A → TS → Prop}  (k_308 : Int → Int → Int → Int → Mo TS A) (hk_308 : ∀ (l1 : Int) (l2 : Int) (l3 : Int) (l4 : Int), R32 l1 → R32 l2 → rg .boolean l3 → R32 l4 → Sx Γ (fun t => (h, t)) K 308 [(0, vA (mg Γ) 21), (1, vI l1), (2, vI l2), (3, vI l3), (4, vI l4)] [] (k_308 l1 l2 l3 l4)) (l1 : Int) (l2 : Int) (l4 : Int) (l5 : Int) (l6 : Int) (hl1 : R32 l1) (hl2 : R32 l2) (hl4 : R32 l4) (hl5 : R32 l5) (hl6 : rg .boolean l6) : Sx Γ (fun t => (h, t)) (KL Γ (fun t => (h, t)) okt_bitOfPart_189 K 189 (lvt_bitOfPart_189 Γ) []) 257 [(0, vA (mg Γ) 21), (1, vI l1), (2, vI l2), (4, vI l4), (5, vI l5), (6, vI l6)] [] (t_bitOfPart_257 k_308 l1 l2 l4 l5 l6) := by
  unfold t_bitOfPart_257
  refine s_iconst o dX11_bitOfPart_257 ?_
  exact st_bitOfPart_258 hT o k_308 hk_308 l1 l2 l4 l5 l6 0 hl1 hl2 hl4 hl5 hl6 (Or.inl rfl)
noncomputable def t_bitOfPart_189b {A : Type} (k_308 : Int → Int → Int → Int → Mo TS A) (l1 : Int) (l2 : Int) (l3 : Int) (l4 : Int) (l5 : Int) : Mo TS ((Int × Int × Int × Int × Int) ⊕ A) :=
  bnd (rd 64 7000 l4) fun v1 =>
  if ¬ v1 = 0 then
    lo (k_308 l1 l2 l3 l4)
  else
    bnd (rd 65 7000 l4) fun v2 =>
    if v2 ≤ l5 then
      lo (k_308 l1 l2 l3 l4)
    else
      bnd (t_child l4 l5) fun v3 =>
      bnd (rd 86 7000 v3) fun v4 =>
      if ¬ l3 = 0 then
        t_bitOfPart_253 k_308 l1 l2 l4 l5 v4
      else
        if v4 = 0 then
          t_bitOfPart_257 k_308 l1 l2 l4 l5 v4
        else
          bnd (rd 68 7000 l4) fun v5 =>
          bnd (rd 87 640 (w32 (v5 + l5))) fun v6 =>
          if ¬ v6 = 0 then
            t_bitOfPart_257 k_308 l1 l2 l4 l5 v4
          else
            t_bitOfPart_253 k_308 l1 l2 l4 l5 v4
theorem st_bitOfPart_189b {Γ : Gm} {h : CH} {d : Nat} (hT : HT h) (o : Ok Γ "LazyForgeModel" cX11_bitOfPart 7 (Option.some Jvm.ClassFile.FieldType.boolean) (d + 3)) {A : Type} {K : A → TS → Prop} (k_308 : Int → Int → Int → Int → Mo TS A) (hk_308 : ∀ (l1 : Int) (l2 : Int) (l3 : Int) (l4 : Int), R32 l1 → R32 l2 → rg .boolean l3 → R32 l4 → Sx Γ (fun t => (h, t)) K 308 [(0, vA (mg Γ) 21), (1, vI l1), (2, vI l2), (3, vI l3), (4, vI l4)] [] (k_308 l1 l2 l3 l4)) (l1 : Int) (l2 : Int) (l3 : Int) (l4 : Int) (l5 : Int) (hl1 : R32 l1) (hl2 : R32 l2) (hl3 : rg .boolean l3) (hl4 : R32 l4) (hl5 : R32 l5) : Sx Γ (fun t => (h, t)) (KL Γ (fun t => (h, t)) okt_bitOfPart_189 K 189 (lvt_bitOfPart_189 Γ) []) 189 [(0, vA (mg Γ) 21), (1, vI l1), (2, vI l2), (3, vI l3), (4, vI l4), (5, vI l5)] [] (t_bitOfPart_189b k_308 l1 l2 l3 l4 l5) := by
  unfold t_bitOfPart_189b
  refine s_aload_n o dX11_bitOfPart_189 rfl 0 rfl ?_
  refine s_tga (x := 58) o hT tf_liftKinds ta_liftKinds (lw_all_tbl q2568) dX11_bitOfPart_190 ?_
  refine s_iload o dX11_bitOfPart_193 4 rfl ?_
  refine r_tiald o hT tr_liftKinds hl4 dX11_bitOfPart_195 (fun v1 hv1 => ?_)
  refine s_if_ne (tgt := 308) o dX11_bitOfPart_196 (by decide) hv1 ?_ ?_
  · refine r_to [(0, vA (mg Γ) 21), (1, vI l1), (2, vI l2), (3, vI l3), (4, vI l4)] [0, 1, 2, 3, 4] rfl ?_
    exact s_lo (hk_308 l1 l2 l3 l4 hl1 hl2 hl3 hl4)
  · refine s_iload o dX11_bitOfPart_199 5 rfl ?_
    refine s_aload_n o dX11_bitOfPart_201 rfl 0 rfl ?_
    refine s_tga (x := 59) o hT tf_liftValues ta_liftValues (lw_all_tbl q2569) dX11_bitOfPart_202 ?_
    refine s_iload o dX11_bitOfPart_205 4 rfl ?_
    refine r_tiald o hT tr_liftValues hl4 dX11_bitOfPart_207 (fun v2 hv2 => ?_)
    refine s_icmp_ge (tgt := 308) o dX11_bitOfPart_208 (by decide) hl5 hv2 ?_ ?_
    · refine r_to [(0, vA (mg Γ) 21), (1, vI l1), (2, vI l2), (3, vI l3), (4, vI l4)] [0, 1, 2, 3, 4] rfl ?_
      exact s_lo (hk_308 l1 l2 l3 l4 hl1 hl2 hl3 hl4)
    · refine s_aload_n o dX11_bitOfPart_211 rfl 0 rfl ?_
      refine s_tga (x := 78) o hT tf_bitOf ta_bitOf (lw_all_tbl q2590) dX11_bitOfPart_212 ?_
      refine s_aload_n o dX11_bitOfPart_215 rfl 0 rfl ?_
      refine s_iload o dX11_bitOfPart_216 4 rfl ?_
      refine s_iload o dX11_bitOfPart_218 5 rfl ?_
      refine s_cv (d := d + 2) (C := "LazyForgeModel") (As := [vI l4, vI l5]) (st := [vA (mg Γ) 78]) o (st_child (mg Γ) (d + 2) h hT l4 l5 hl4 hl5) mw_X11_child rfl (Or.inl (lw_all_tbl q3189)) (lw_all_tbl qs115) (lw_all_tbl q3191) (fun t => rc_t o hT t) (wt_A wt_0) rfl dX11_bitOfPart_220 rfl (rs := fun r => [vI r, vA (mg Γ) 78]) (fun _ => rfl) (fun v3 hv3 => ?_)
      refine r_tzald o hT tr_bitOf (hv3 _ rfl) dX11_bitOfPart_223 (fun v4 hv4 => ?_)
      refine r_istore o dX11_bitOfPart_224 rfl ⟨(Nat.ne_of_beq_eq_false rfl), (fun _ => (vA_cat (mg Γ) 21)), ⟨(Nat.ne_of_beq_eq_false rfl), (fun _ => rfl), ⟨(Nat.ne_of_beq_eq_false rfl), (fun _ => rfl), ⟨(Nat.ne_of_beq_eq_false rfl), (fun _ => rfl), ⟨(Nat.ne_of_beq_eq_false rfl), (fun _ => rfl), ⟨(Nat.ne_of_beq_eq_false rfl), (fun _ => rfl), trivial⟩⟩⟩⟩⟩⟩ ?_
      refine s_iload_n o dX11_bitOfPart_226 rfl 4 rfl ?_
      refine s_if_ne (tgt := 253) o dX11_bitOfPart_227 (by decide) (rZ hl3) ?_ ?_
      · refine r_to [(0, vA (mg Γ) 21), (1, vI l1), (2, vI l2), (4, vI l4), (5, vI l5), (6, vI v4)] [1, 2, 3, 5, 6, 0] rfl ?_
        exact st_bitOfPart_253 hT o k_308 hk_308 l1 l2 l4 l5 v4 hl1 hl2 hl4 hl5 hv4
      · refine s_iload o dX11_bitOfPart_230 0 rfl ?_
        refine s_if_eq (tgt := 257) o dX11_bitOfPart_232 (by decide) (rZ hv4) ?_ ?_
        · refine r_to [(0, vA (mg Γ) 21), (1, vI l1), (2, vI l2), (4, vI l4), (5, vI l5), (6, vI v4)] [1, 2, 3, 5, 6, 0] rfl ?_
          exact st_bitOfPart_257 hT o k_308 hk_308 l1 l2 l4 l5 v4 hl1 hl2 hl4 hl5 hv4
        · refine s_aload_n o dX11_bitOfPart_235 rfl 1 rfl ?_
          refine s_tga (x := 79) o hT tf_has ta_has (lw_all_tbl q2591) dX11_bitOfPart_236 ?_
          refine s_aload_n o dX11_bitOfPart_239 rfl 1 rfl ?_
          refine s_tga (x := 62) o hT tf_liftVariables ta_liftVariables (lw_all_tbl q2572) dX11_bitOfPart_240 ?_
          refine s_iload o dX11_bitOfPart_243 5 rfl ?_
          refine r_tiald o hT tr_liftVariables hl4 dX11_bitOfPart_245 (fun v5 hv5 => ?_)
          refine s_iload o dX11_bitOfPart_246 6 rfl ?_
          refine s_iadd o dX11_bitOfPart_248 ?_
          refine r_tzald o hT tr_has (w32_R _) dX11_bitOfPart_249 (fun v6 hv6 => ?_)
          refine s_if_ne (tgt := 257) o dX11_bitOfPart_250 (by decide) (rZ hv6) ?_ ?_
          · refine r_to [(0, vA (mg Γ) 21), (1, vI l1), (2, vI l2), (4, vI l4), (5, vI l5), (6, vI v4)] [1, 2, 3, 5, 6, 0] rfl ?_
            exact st_bitOfPart_257 hT o k_308 hk_308 l1 l2 l4 l5 v4 hl1 hl2 hl4 hl5 hv4
          · refine r_to [(0, vA (mg Γ) 21), (1, vI l1), (2, vI l2), (4, vI l4), (5, vI l5), (6, vI v4)] [1, 2, 3, 5, 6, 0] rfl ?_
            exact st_bitOfPart_253 hT o k_308 hk_308 l1 l2 l4 l5 v4 hl1 hl2 hl4 hl5 hv4
noncomputable def t_bitOfPart_189 {A : Type} (k_308 : Int → Int → Int → Int → Mo TS A) (l1 : Int) (l2 : Int) (l3 : Int) (l4 : Int) (l5 : Int) : Mo TS A := Loop (fun x => t_bitOfPart_189b k_308 x.1 x.2.1 x.2.2.1 x.2.2.2.1 x.2.2.2.2) (l1, l2, l3, l4, l5)
theorem st_bitOfPart_189 {Γ : Gm} {h : CH} {d : Nat} (hT : HT h) (o : Ok Γ "LazyForgeModel" cX11_bitOfPart 7 (Option.some Jvm.ClassFile.FieldType.boolean) (d + 3)) {A : Type} {K : A → TS → Prop} (k_308 : Int → Int → Int → Int → Mo TS A) (hk_308 : ∀ (l1 : Int) (l2 : Int) (l3 : Int) (l4 : Int), R32 l1 → R32 l2 → rg .boolean l3 → R32 l4 → Sx Γ (fun t => (h, t)) K 308 [(0, vA (mg Γ) 21), (1, vI l1), (2, vI l2), (3, vI l3), (4, vI l4)] [] (k_308 l1 l2 l3 l4)) (l1 : Int) (l2 : Int) (l3 : Int) (l4 : Int) (l5 : Int) (hl1 : R32 l1) (hl2 : R32 l2) (hl3 : rg .boolean l3) (hl4 : R32 l4) (hl5 : R32 l5) : Sx Γ (fun t => (h, t)) K 189 [(0, vA (mg Γ) 21), (1, vI l1), (2, vI l2), (3, vI l3), (4, vI l4), (5, vI l5)] [] (t_bitOfPart_189 k_308 l1 l2 l3 l4 l5) :=
  s_loop okt_bitOfPart_189 (lvt_bitOfPart_189 Γ) (fun x hx => st_bitOfPart_189b hT o k_308 hk_308 x.1 x.2.1 x.2.2.1 x.2.2.2.1 x.2.2.2.2 hx.1 hx.2.1 hx.2.2.1 hx.2.2.2.1 hx.2.2.2.2) (x := (l1, l2, l3, l4, l5)) ⟨hl1, hl2, hl3, hl4, hl5⟩
abbrev okt_bitOfPart_180 (x : Int × Int × Int × Int) : Prop := R32 x.1 ∧ R32 x.2.1 ∧ rg .boolean x.2.2.1 ∧ R32 x.2.2.2
abbrev lvt_bitOfPart_180 (Γ : Gm) (x : Int × Int × Int × Int) : List (Nat × Value) := [(0, vA (mg Γ) 21), (1, vI x.1), (2, vI x.2.1), (3, vI x.2.2.1), (4, vI x.2.2.2)]
noncomputable def t_bitOfPart_180b {A : Type} (k_314 : Int → Int → Int → Mo TS A) (l1 : Int) (l2 : Int) (l3 : Int) (l4 : Int) : Mo TS ((Int × Int × Int × Int) ⊕ A) :=
  if l2 < l4 then
    lo (k_314 l1 l2 l3)
  else
    t_bitOfPart_189
      (fun v1 v2 v3 v4 => pr (.inl (v1, v2, v3, (w32 (v4 + 1))))) l1 l2 l3 l4 0
theorem st_bitOfPart_180b {Γ : Gm} {h : CH} {d : Nat} (hT : HT h) (o : Ok Γ "LazyForgeModel" cX11_bitOfPart 7 (Option.some Jvm.ClassFile.FieldType.boolean) (d + 3)) {A : Type} {K : A → TS → Prop} (k_314 : Int → Int → Int → Mo TS A) (hk_314 : ∀ (l1 : Int) (l2 : Int) (l3 : Int), R32 l1 → R32 l2 → rg .boolean l3 → Sx Γ (fun t => (h, t)) K 314 [(0, vA (mg Γ) 21), (1, vI l1), (2, vI l2), (3, vI l3)] [] (k_314 l1 l2 l3)) (l1 : Int) (l2 : Int) (l3 : Int) (l4 : Int) (hl1 : R32 l1) (hl2 : R32 l2) (hl3 : rg .boolean l3) (hl4 : R32 l4) : Sx Γ (fun t => (h, t)) (KL Γ (fun t => (h, t)) okt_bitOfPart_180 K 180 (lvt_bitOfPart_180 Γ) []) 180 [(0, vA (mg Γ) 21), (1, vI l1), (2, vI l2), (3, vI l3), (4, vI l4)] [] (t_bitOfPart_180b k_314 l1 l2 l3 l4) := by
  unfold t_bitOfPart_180b
  refine s_iload o dX11_bitOfPart_180 4 rfl ?_
  refine s_iload_n o dX11_bitOfPart_182 rfl 2 rfl ?_
  refine s_icmp_gt (tgt := 314) o dX11_bitOfPart_183 (by decide) hl4 hl2 ?_ ?_
  · refine r_to [(0, vA (mg Γ) 21), (1, vI l1), (2, vI l2), (3, vI l3)] [0, 1, 2, 3] rfl ?_
    exact s_lo (hk_314 l1 l2 l3 hl1 hl2 hl3)
  · refine s_iconst o dX11_bitOfPart_186 ?_
    refine r_istore o dX11_bitOfPart_187 rfl ⟨(Nat.ne_of_beq_eq_false rfl), (fun _ => (vA_cat (mg Γ) 21)), ⟨(Nat.ne_of_beq_eq_false rfl), (fun _ => rfl), ⟨(Nat.ne_of_beq_eq_false rfl), (fun _ => rfl), ⟨(Nat.ne_of_beq_eq_false rfl), (fun _ => rfl), ⟨(Nat.ne_of_beq_eq_false rfl), (fun _ => rfl), trivial⟩⟩⟩⟩⟩ ?_
    refine r_to [(0, vA (mg Γ) 21), (1, vI l1), (2, vI l2), (3, vI l3), (4, vI l4), (5, vI 0)] [1, 2, 3, 4, 5, 0] rfl ?_
    refine st_bitOfPart_189 hT o _ ?_ l1 l2 l3 l4 0 hl1 hl2 hl3 hl4 (r32 rfl)
    · intro v1 v2 v3 v4 hv1 hv2 hv3 hv4
      refine r_iinc (j := 4) o dX11_bitOfPart_308 rfl rfl [(0, vA (mg Γ) 21), (1, vI v1), (2, vI v2), (3, vI v3)] [0, 1, 2, 3] rfl ⟨(Nat.ne_of_beq_eq_false rfl), (fun _ => (vA_cat (mg Γ) 21)), ⟨(Nat.ne_of_beq_eq_false rfl), (fun _ => rfl), ⟨(Nat.ne_of_beq_eq_false rfl), (fun _ => rfl), ⟨(Nat.ne_of_beq_eq_false rfl), (fun _ => rfl), trivial⟩⟩⟩⟩ ?_
      refine s_goto (tgt := 180) o dX11_bitOfPart_311 (by decide) ?_
      refine r_to [(0, vA (mg Γ) 21), (1, vI v1), (2, vI v2), (3, vI v3), (4, vI (w32 (v4 + 1)))] [1, 2, 3, 4, 0] rfl ?_
      exact s_back (⟨hv1, hv2, hv3, (w32_R _)⟩) rfl
noncomputable def t_bitOfPart_180 {A : Type} (k_314 : Int → Int → Int → Mo TS A) (l1 : Int) (l2 : Int) (l3 : Int) (l4 : Int) : Mo TS A := Loop (fun x => t_bitOfPart_180b k_314 x.1 x.2.1 x.2.2.1 x.2.2.2) (l1, l2, l3, l4)
theorem st_bitOfPart_180 {Γ : Gm} {h : CH} {d : Nat} (hT : HT h) (o : Ok Γ "LazyForgeModel" cX11_bitOfPart 7 (Option.some Jvm.ClassFile.FieldType.boolean) (d + 3)) {A : Type} {K : A → TS → Prop} (k_314 : Int → Int → Int → Mo TS A) (hk_314 : ∀ (l1 : Int) (l2 : Int) (l3 : Int), R32 l1 → R32 l2 → rg .boolean l3 → Sx Γ (fun t => (h, t)) K 314 [(0, vA (mg Γ) 21), (1, vI l1), (2, vI l2), (3, vI l3)] [] (k_314 l1 l2 l3)) (l1 : Int) (l2 : Int) (l3 : Int) (l4 : Int) (hl1 : R32 l1) (hl2 : R32 l2) (hl3 : rg .boolean l3) (hl4 : R32 l4) : Sx Γ (fun t => (h, t)) K 180 [(0, vA (mg Γ) 21), (1, vI l1), (2, vI l2), (3, vI l3), (4, vI l4)] [] (t_bitOfPart_180 k_314 l1 l2 l3 l4) :=
  s_loop okt_bitOfPart_180 (lvt_bitOfPart_180 Γ) (fun x hx => st_bitOfPart_180b hT o k_314 hk_314 x.1 x.2.1 x.2.2.1 x.2.2.2 hx.1 hx.2.1 hx.2.2.1 hx.2.2.2) (x := (l1, l2, l3, l4)) ⟨hl1, hl2, hl3, hl4⟩
abbrev okt_bitOfPart_2 (x : Int × Int × Int) : Prop := R32 x.1 ∧ R32 x.2.1 ∧ R32 x.2.2
abbrev lvt_bitOfPart_2 (Γ : Gm) (x : Int × Int × Int) : List (Nat × Value) := [(0, vA (mg Γ) 21), (1, vI x.1), (2, vI x.2.1), (3, vI x.2.2)]
noncomputable def t_bitOfPart_135 {A : Type} (k_141 : Int → Int → Mo TS A) (l1 : Int) (l2 : Int) (l3 : Int) : Mo TS ((Int × Int × Int) ⊕ A) :=
  pr (.inl (l1, l2, (w32 (l3 + 1))))
theorem st_bitOfPart_135 {Γ : Gm} {h : CH} {d : Nat} (hT : HT h) (o : Ok Γ "LazyForgeModel" cX11_bitOfPart 7 (Option.some Jvm.ClassFile.FieldType.boolean) (d + 3)) {A : Type} {K : A → TS → Prop}  (k_141 : Int → Int → Mo TS A) (hk_141 : ∀ (l1 : Int) (l2 : Int), R32 l1 → R32 l2 → Sx Γ (fun t => (h, t)) K 141 [(0, vA (mg Γ) 21), (1, vI l1), (2, vI l2)] [] (k_141 l1 l2)) (l1 : Int) (l2 : Int) (l3 : Int) (hl1 : R32 l1) (hl2 : R32 l2) (hl3 : R32 l3) : Sx Γ (fun t => (h, t)) (KL Γ (fun t => (h, t)) okt_bitOfPart_2 K 2 (lvt_bitOfPart_2 Γ) []) 135 [(0, vA (mg Γ) 21), (1, vI l1), (2, vI l2), (3, vI l3)] [] (t_bitOfPart_135 k_141 l1 l2 l3) := by
  unfold t_bitOfPart_135
  refine r_iinc (j := 3) o dX11_bitOfPart_135 rfl rfl [(0, vA (mg Γ) 21), (1, vI l1), (2, vI l2)] [0, 1, 2] rfl ⟨(Nat.ne_of_beq_eq_false rfl), (fun _ => (vA_cat (mg Γ) 21)), ⟨(Nat.ne_of_beq_eq_false rfl), (fun _ => rfl), ⟨(Nat.ne_of_beq_eq_false rfl), (fun _ => rfl), trivial⟩⟩⟩ ?_
  refine s_goto (tgt := 2) o dX11_bitOfPart_138 (by decide) ?_
  refine r_to [(0, vA (mg Γ) 21), (1, vI l1), (2, vI l2), (3, vI (w32 (l3 + 1)))] [1, 2, 3, 0] rfl ?_
  exact s_back (⟨hl1, hl2, (w32_R _)⟩) rfl
noncomputable def t_bitOfPart_2b {A : Type} (k_141 : Int → Int → Mo TS A) (l1 : Int) (l2 : Int) (l3 : Int) : Mo TS ((Int × Int × Int) ⊕ A) :=
  if l2 < l3 then
    lo (k_141 l1 l2)
  else
    bnd (rd 64 7000 l3) fun v1 =>
    if ¬ v1 = 0 then
      bnd (rd 64 7000 l3) fun v2 =>
      if ¬ v2 = 3 then
        t_bitOfPart_135 k_141 l1 l2 l3
      else
        t_bitOfPart_67
          (fun v3 v4 v5 => t_bitOfPart_135 k_141 v3 v4 v5) l1 l2 l3 1
    else
      t_bitOfPart_19
        (fun v6 v7 v8 => t_bitOfPart_135 k_141 v6 v7 v8) l1 l2 l3 0
theorem st_bitOfPart_2b {Γ : Gm} {h : CH} {d : Nat} (hT : HT h) (o : Ok Γ "LazyForgeModel" cX11_bitOfPart 7 (Option.some Jvm.ClassFile.FieldType.boolean) (d + 3)) {A : Type} {K : A → TS → Prop} (k_141 : Int → Int → Mo TS A) (hk_141 : ∀ (l1 : Int) (l2 : Int), R32 l1 → R32 l2 → Sx Γ (fun t => (h, t)) K 141 [(0, vA (mg Γ) 21), (1, vI l1), (2, vI l2)] [] (k_141 l1 l2)) (l1 : Int) (l2 : Int) (l3 : Int) (hl1 : R32 l1) (hl2 : R32 l2) (hl3 : R32 l3) : Sx Γ (fun t => (h, t)) (KL Γ (fun t => (h, t)) okt_bitOfPart_2 K 2 (lvt_bitOfPart_2 Γ) []) 2 [(0, vA (mg Γ) 21), (1, vI l1), (2, vI l2), (3, vI l3)] [] (t_bitOfPart_2b k_141 l1 l2 l3) := by
  unfold t_bitOfPart_2b
  refine s_iload_n o dX11_bitOfPart_2 rfl 3 rfl ?_
  refine s_iload_n o dX11_bitOfPart_3 rfl 2 rfl ?_
  refine s_icmp_gt (tgt := 141) o dX11_bitOfPart_4 (by decide) hl3 hl2 ?_ ?_
  · refine r_to [(0, vA (mg Γ) 21), (1, vI l1), (2, vI l2)] [0, 1, 2] rfl ?_
    exact s_lo (hk_141 l1 l2 hl1 hl2)
  · refine s_aload_n o dX11_bitOfPart_7 rfl 0 rfl ?_
    refine s_tga (x := 58) o hT tf_liftKinds ta_liftKinds (lw_all_tbl q2568) dX11_bitOfPart_8 ?_
    refine s_iload_n o dX11_bitOfPart_11 rfl 3 rfl ?_
    refine r_tiald o hT tr_liftKinds hl3 dX11_bitOfPart_12 (fun v1 hv1 => ?_)
    refine s_if_ne (tgt := 54) o dX11_bitOfPart_13 (by decide) hv1 ?_ ?_
    · refine s_aload_n o dX11_bitOfPart_54 rfl 0 rfl ?_
      refine s_tga (x := 58) o hT tf_liftKinds ta_liftKinds (lw_all_tbl q2568) dX11_bitOfPart_55 ?_
      refine s_iload_n o dX11_bitOfPart_58 rfl 3 rfl ?_
      refine r_tiald o hT tr_liftKinds hl3 dX11_bitOfPart_59 (fun v2 hv2 => ?_)
      refine s_iconst o dX11_bitOfPart_60 ?_
      refine s_icmp_ne (tgt := 135) o dX11_bitOfPart_61 (by decide) hv2 (r32 rfl) ?_ ?_
      · exact st_bitOfPart_135 hT o k_141 hk_141 l1 l2 l3 hl1 hl2 hl3
      · refine s_iconst o dX11_bitOfPart_64 ?_
        refine r_istore o dX11_bitOfPart_65 rfl ⟨(Nat.ne_of_beq_eq_false rfl), (fun _ => (vA_cat (mg Γ) 21)), ⟨(Nat.ne_of_beq_eq_false rfl), (fun _ => rfl), ⟨(Nat.ne_of_beq_eq_false rfl), (fun _ => rfl), ⟨(Nat.ne_of_beq_eq_false rfl), (fun _ => rfl), trivial⟩⟩⟩⟩ ?_
        refine r_to [(0, vA (mg Γ) 21), (1, vI l1), (2, vI l2), (3, vI l3), (4, vI 1)] [1, 2, 3, 4, 0] rfl ?_
        refine st_bitOfPart_67 hT o _ ?_ l1 l2 l3 1 hl1 hl2 hl3 (r32 rfl)
        · intro v3 v4 v5 hv3 hv4 hv5
          exact st_bitOfPart_135 hT o k_141 hk_141 v3 v4 v5 hv3 hv4 hv5
    · refine s_iconst o dX11_bitOfPart_16 ?_
      refine r_istore o dX11_bitOfPart_17 rfl ⟨(Nat.ne_of_beq_eq_false rfl), (fun _ => (vA_cat (mg Γ) 21)), ⟨(Nat.ne_of_beq_eq_false rfl), (fun _ => rfl), ⟨(Nat.ne_of_beq_eq_false rfl), (fun _ => rfl), ⟨(Nat.ne_of_beq_eq_false rfl), (fun _ => rfl), trivial⟩⟩⟩⟩ ?_
      refine r_to [(0, vA (mg Γ) 21), (1, vI l1), (2, vI l2), (3, vI l3), (4, vI 0)] [1, 2, 3, 4, 0] rfl ?_
      refine st_bitOfPart_19 hT o _ ?_ l1 l2 l3 0 hl1 hl2 hl3 (r32 rfl)
      · intro v6 v7 v8 hv6 hv7 hv8
        refine s_goto (tgt := 135) o dX11_bitOfPart_51 (by decide) ?_
        exact st_bitOfPart_135 hT o k_141 hk_141 v6 v7 v8 hv6 hv7 hv8
noncomputable def t_bitOfPart_2 {A : Type} (k_141 : Int → Int → Mo TS A) (l1 : Int) (l2 : Int) (l3 : Int) : Mo TS A := Loop (fun x => t_bitOfPart_2b k_141 x.1 x.2.1 x.2.2) (l1, l2, l3)
theorem st_bitOfPart_2 {Γ : Gm} {h : CH} {d : Nat} (hT : HT h) (o : Ok Γ "LazyForgeModel" cX11_bitOfPart 7 (Option.some Jvm.ClassFile.FieldType.boolean) (d + 3)) {A : Type} {K : A → TS → Prop} (k_141 : Int → Int → Mo TS A) (hk_141 : ∀ (l1 : Int) (l2 : Int), R32 l1 → R32 l2 → Sx Γ (fun t => (h, t)) K 141 [(0, vA (mg Γ) 21), (1, vI l1), (2, vI l2)] [] (k_141 l1 l2)) (l1 : Int) (l2 : Int) (l3 : Int) (hl1 : R32 l1) (hl2 : R32 l2) (hl3 : R32 l3) : Sx Γ (fun t => (h, t)) K 2 [(0, vA (mg Γ) 21), (1, vI l1), (2, vI l2), (3, vI l3)] [] (t_bitOfPart_2 k_141 l1 l2 l3) :=
  s_loop okt_bitOfPart_2 (lvt_bitOfPart_2 Γ) (fun x hx => st_bitOfPart_2b hT o k_141 hk_141 x.1 x.2.1 x.2.2 hx.1 hx.2.1 hx.2.2) (x := (l1, l2, l3)) ⟨hl1, hl2, hl3⟩
abbrev okt_bitOfPart_143 (x : Int × Int × Int) : Prop := R32 x.1 ∧ R32 x.2.1 ∧ rg .boolean x.2.2
abbrev lvt_bitOfPart_143 (Γ : Gm) (x : Int × Int × Int) : List (Nat × Value) := [(0, vA (mg Γ) 21), (1, vI x.1), (2, vI x.2.1), (3, vI x.2.2)]
noncomputable def t_bitOfPart_143b {A : Type} (k_317 : Int → Mo TS A) (l1 : Int) (l2 : Int) (l3 : Int) : Mo TS ((Int × Int × Int) ⊕ A) :=
  if l3 = 0 then
    lo (k_317 l2)
  else
    t_bitOfPart_152
      (fun v1 v2 v3 => t_bitOfPart_180
      (fun v4 v5 v6 => pr (.inl (v4, v5, v6))) v1 v2 v3 v1) l1 l2 0 l1
theorem st_bitOfPart_143b {Γ : Gm} {h : CH} {d : Nat} (hT : HT h) (o : Ok Γ "LazyForgeModel" cX11_bitOfPart 7 (Option.some Jvm.ClassFile.FieldType.boolean) (d + 3)) {A : Type} {K : A → TS → Prop} (k_317 : Int → Mo TS A) (hk_317 : ∀ (l2 : Int), R32 l2 → Sx Γ (fun t => (h, t)) K 317 [(0, vA (mg Γ) 21), (2, vI l2)] [] (k_317 l2)) (l1 : Int) (l2 : Int) (l3 : Int) (hl1 : R32 l1) (hl2 : R32 l2) (hl3 : rg .boolean l3) : Sx Γ (fun t => (h, t)) (KL Γ (fun t => (h, t)) okt_bitOfPart_143 K 143 (lvt_bitOfPart_143 Γ) []) 143 [(0, vA (mg Γ) 21), (1, vI l1), (2, vI l2), (3, vI l3)] [] (t_bitOfPart_143b k_317 l1 l2 l3) := by
  unfold t_bitOfPart_143b
  refine s_iload_n o dX11_bitOfPart_143 rfl 3 rfl ?_
  refine s_if_eq (tgt := 317) o dX11_bitOfPart_144 (by decide) (rZ hl3) ?_ ?_
  · refine r_to [(0, vA (mg Γ) 21), (2, vI l2)] [0, 2] rfl ?_
    exact s_lo (hk_317 l2 hl2)
  · refine s_iconst o dX11_bitOfPart_147 ?_
    refine r_istore_nP o dX11_bitOfPart_148 rfl rfl [(0, vA (mg Γ) 21), (1, vI l1), (2, vI l2)] [0, 1, 2] rfl ⟨(Nat.ne_of_beq_eq_false rfl), (fun _ => (vA_cat (mg Γ) 21)), ⟨(Nat.ne_of_beq_eq_false rfl), (fun _ => rfl), ⟨(Nat.ne_of_beq_eq_false rfl), (fun _ => rfl), trivial⟩⟩⟩ ?_
    refine s_iload_n o dX11_bitOfPart_149 rfl 2 rfl ?_
    refine r_istore o dX11_bitOfPart_150 rfl ⟨(Nat.ne_of_beq_eq_false rfl), (fun _ => rfl), ⟨(Nat.ne_of_beq_eq_false rfl), (fun _ => (vA_cat (mg Γ) 21)), ⟨(Nat.ne_of_beq_eq_false rfl), (fun _ => rfl), ⟨(Nat.ne_of_beq_eq_false rfl), (fun _ => rfl), trivial⟩⟩⟩⟩ ?_
    refine r_to [(0, vA (mg Γ) 21), (1, vI l1), (2, vI l2), (3, vI 0), (4, vI l1)] [2, 3, 4, 1, 0] rfl ?_
    refine st_bitOfPart_152 hT o _ ?_ l1 l2 0 l1 hl1 hl2 (Or.inl rfl) hl1
    · intro v1 v2 v3 hv1 hv2 hv3
      refine s_iload_n o dX11_bitOfPart_177 rfl 1 rfl ?_
      refine r_istore o dX11_bitOfPart_178 rfl ⟨(Nat.ne_of_beq_eq_false rfl), (fun _ => (vA_cat (mg Γ) 21)), ⟨(Nat.ne_of_beq_eq_false rfl), (fun _ => rfl), ⟨(Nat.ne_of_beq_eq_false rfl), (fun _ => rfl), ⟨(Nat.ne_of_beq_eq_false rfl), (fun _ => rfl), trivial⟩⟩⟩⟩ ?_
      refine r_to [(0, vA (mg Γ) 21), (1, vI v1), (2, vI v2), (3, vI v3), (4, vI v1)] [1, 2, 3, 4, 0] rfl ?_
      refine st_bitOfPart_180 hT o _ ?_ v1 v2 v3 v1 hv1 hv2 hv3 hv1
      · intro v4 v5 v6 hv4 hv5 hv6
        refine s_goto (tgt := 143) o dX11_bitOfPart_314 (by decide) ?_
        exact s_back (⟨hv4, hv5, hv6⟩) rfl
noncomputable def t_bitOfPart_143 {A : Type} (k_317 : Int → Mo TS A) (l1 : Int) (l2 : Int) (l3 : Int) : Mo TS A := Loop (fun x => t_bitOfPart_143b k_317 x.1 x.2.1 x.2.2) (l1, l2, l3)
theorem st_bitOfPart_143 {Γ : Gm} {h : CH} {d : Nat} (hT : HT h) (o : Ok Γ "LazyForgeModel" cX11_bitOfPart 7 (Option.some Jvm.ClassFile.FieldType.boolean) (d + 3)) {A : Type} {K : A → TS → Prop} (k_317 : Int → Mo TS A) (hk_317 : ∀ (l2 : Int), R32 l2 → Sx Γ (fun t => (h, t)) K 317 [(0, vA (mg Γ) 21), (2, vI l2)] [] (k_317 l2)) (l1 : Int) (l2 : Int) (l3 : Int) (hl1 : R32 l1) (hl2 : R32 l2) (hl3 : rg .boolean l3) : Sx Γ (fun t => (h, t)) K 143 [(0, vA (mg Γ) 21), (1, vI l1), (2, vI l2), (3, vI l3)] [] (t_bitOfPart_143 k_317 l1 l2 l3) :=
  s_loop okt_bitOfPart_143 (lvt_bitOfPart_143 Γ) (fun x hx => st_bitOfPart_143b hT o k_317 hk_317 x.1 x.2.1 x.2.2 hx.1 hx.2.1 hx.2.2) (x := (l1, l2, l3)) ⟨hl1, hl2, hl3⟩
noncomputable def t_bitOfPart (l1 : Int) (l2 : Int) : Mo TS Int :=
  t_bitOfPart_2
    (fun v1 v2 => t_bitOfPart_143
    (fun v3 => bnd (rd 86 7000 v3) fun v4 =>
  pr v4) v1 v2 1) l1 l2 l1
theorem st_bitOfPart (g : gC) (d : Nat) (h : CH) (hT : HT h) (l1 : Int) (l2 : Int) (hl1 : R32 l1) (hl2 : R32 l2) : SF g yX11_bitOfPart (Cond.code yX11_bitOfPart cX11_bitOfPart 7 (Option.some Jvm.ClassFile.FieldType.boolean)) (Option.some Jvm.ClassFile.FieldType.boolean) (d + 3) [vA g 21, vI l1, vI l2] (fun t => (h, t)) (t_bitOfPart l1 l2) := by
  refine SF.of (lv := [(0, vA g 21), (1, vI l1), (2, vI l2)]) (by decide) (wt_A (wt_I (wt_I wt_0))) rfl (by simp only [la_A, la_I, la_J, la_0]) (fun Γ hg hnm o => ?_)
  subst hg
  have o : Ok Γ "LazyForgeModel" cX11_bitOfPart 7 (Option.some Jvm.ClassFile.FieldType.boolean) (d + 3) := o
  unfold t_bitOfPart
  refine s_iload_n o dX11_bitOfPart_0 rfl 1 rfl ?_
  refine r_istore_n o dX11_bitOfPart_1 rfl rfl ⟨(Nat.ne_of_beq_eq_false rfl), (fun _ => (vA_cat (mg Γ) 21)), ⟨(Nat.ne_of_beq_eq_false rfl), (fun _ => rfl), ⟨(Nat.ne_of_beq_eq_false rfl), (fun _ => rfl), trivial⟩⟩⟩ ?_
  refine r_to [(0, vA (mg Γ) 21), (1, vI l1), (2, vI l2), (3, vI l1)] [1, 2, 3, 0] rfl ?_
  refine st_bitOfPart_2 hT o _ ?_ l1 l2 l1 hl1 hl2 hl1
  · intro v1 v2 hv1 hv2
    refine s_iconst o dX11_bitOfPart_141 ?_
    refine r_istore_n o dX11_bitOfPart_142 rfl rfl ⟨(Nat.ne_of_beq_eq_false rfl), (fun _ => (vA_cat (mg Γ) 21)), ⟨(Nat.ne_of_beq_eq_false rfl), (fun _ => rfl), ⟨(Nat.ne_of_beq_eq_false rfl), (fun _ => rfl), trivial⟩⟩⟩ ?_
    refine r_to [(0, vA (mg Γ) 21), (1, vI v1), (2, vI v2), (3, vI 1)] [1, 2, 3, 0] rfl ?_
    refine st_bitOfPart_143 hT o _ ?_ v1 v2 1 hv1 hv2 (Or.inr rfl)
    · intro v3 hv3
      refine s_aload_n o dX11_bitOfPart_317 rfl 0 rfl ?_
      refine s_tga (x := 78) o hT tf_bitOf ta_bitOf (lw_all_tbl q2590) dX11_bitOfPart_318 ?_
      refine s_iload_n o dX11_bitOfPart_321 rfl 1 rfl ?_
      refine r_tzald o hT tr_bitOf hv3 dX11_bitOfPart_322 (fun v4 hv4 => ?_)
      exact s_iret o rfl i_boolean hv4 dX11_bitOfPart_323 (fun _ hh => hh)
theorem dX11_doTasks_0 : decode cX11_doTasks 0 = .ok (.aload_n 0, 1) := by decide +kernel
theorem dX11_doTasks_1 : decode cX11_doTasks 1 = .ok (.getfield 663, 3) := by decide +kernel
theorem dX11_doTasks_4 : decode cX11_doTasks 4 = .ok (.ifCond .le 88, 3) := by decide +kernel
theorem dX11_doTasks_7 : decode cX11_doTasks 7 = .ok (.aload_n 0, 1) := by decide +kernel
theorem dX11_doTasks_8 : decode cX11_doTasks 8 = .ok (.getfield 605, 3) := by decide +kernel
theorem dX11_doTasks_11 : decode cX11_doTasks 11 = .ok (.ifCond .ne 81, 3) := by decide +kernel
theorem dX11_doTasks_14 : decode cX11_doTasks 14 = .ok (.aload_n 0, 1) := by decide +kernel
theorem dX11_doTasks_15 : decode cX11_doTasks 15 = .ok (.dup, 1) := by decide +kernel
theorem dX11_doTasks_16 : decode cX11_doTasks 16 = .ok (.getfield 663, 3) := by decide +kernel
theorem dX11_doTasks_19 : decode cX11_doTasks 19 = .ok (.iconst 1, 1) := by decide +kernel
theorem dX11_doTasks_20 : decode cX11_doTasks 20 = .ok (.isub, 1) := by decide +kernel
theorem dX11_doTasks_21 : decode cX11_doTasks 21 = .ok (.putfield 663, 3) := by decide +kernel
theorem dX11_doTasks_24 : decode cX11_doTasks 24 = .ok (.aload_n 0, 1) := by decide +kernel
theorem dX11_doTasks_25 : decode cX11_doTasks 25 = .ok (.getfield 236, 3) := by decide +kernel
theorem dX11_doTasks_28 : decode cX11_doTasks 28 = .ok (.aload_n 0, 1) := by decide +kernel
theorem dX11_doTasks_29 : decode cX11_doTasks 29 = .ok (.getfield 663, 3) := by decide +kernel
theorem dX11_doTasks_32 : decode cX11_doTasks 32 = .ok (.iaload, 1) := by decide +kernel
theorem dX11_doTasks_33 : decode cX11_doTasks 33 = .ok (.istore_n 1, 1) := by decide +kernel
theorem dX11_doTasks_34 : decode cX11_doTasks 34 = .ok (.aload_n 0, 1) := by decide +kernel
theorem dX11_doTasks_35 : decode cX11_doTasks 35 = .ok (.getfield 239, 3) := by decide +kernel
theorem dX11_doTasks_38 : decode cX11_doTasks 38 = .ok (.aload_n 0, 1) := by decide +kernel
theorem dX11_doTasks_39 : decode cX11_doTasks 39 = .ok (.getfield 663, 3) := by decide +kernel
theorem dX11_doTasks_42 : decode cX11_doTasks 42 = .ok (.iaload, 1) := by decide +kernel
theorem dX11_doTasks_43 : decode cX11_doTasks 43 = .ok (.istore_n 2, 1) := by decide +kernel
theorem dX11_doTasks_44 : decode cX11_doTasks 44 = .ok (.aload_n 0, 1) := by decide +kernel
theorem dX11_doTasks_45 : decode cX11_doTasks 45 = .ok (.iload_n 1, 1) := by decide +kernel
theorem dX11_doTasks_46 : decode cX11_doTasks 46 = .ok (.invokevirtual 666, 3) := by decide +kernel
theorem dX11_doTasks_49 : decode cX11_doTasks 49 = .ok (.lstore_n 3, 1) := by decide +kernel
theorem dX11_doTasks_50 : decode cX11_doTasks 50 = .ok (.lload_n 3, 1) := by decide +kernel
theorem dX11_doTasks_51 : decode cX11_doTasks 51 = .ok (.lconst 0, 1) := by decide +kernel
theorem dX11_doTasks_52 : decode cX11_doTasks 52 = .ok (.lcmp, 1) := by decide +kernel
theorem dX11_doTasks_53 : decode cX11_doTasks 53 = .ok (.ifCond .ge 29, 3) := by decide +kernel
theorem dX11_doTasks_56 : decode cX11_doTasks 56 = .ok (.aload_n 0, 1) := by decide +kernel
theorem dX11_doTasks_57 : decode cX11_doTasks 57 = .ok (.iload_n 1, 1) := by decide +kernel
theorem dX11_doTasks_58 : decode cX11_doTasks 58 = .ok (.invokevirtual 670, 3) := by decide +kernel
theorem dX11_doTasks_61 : decode cX11_doTasks 61 = .ok (.istore 5, 2) := by decide +kernel
theorem dX11_doTasks_63 : decode cX11_doTasks 63 = .ok (.iload 5, 2) := by decide +kernel
theorem dX11_doTasks_65 : decode cX11_doTasks 65 = .ok (.ifCond .lt 17, 3) := by decide +kernel
theorem dX11_doTasks_68 : decode cX11_doTasks 68 = .ok (.iconst 3, 1) := by decide +kernel
theorem dX11_doTasks_69 : decode cX11_doTasks 69 = .ok (.iload 5, 2) := by decide +kernel
theorem dX11_doTasks_71 : decode cX11_doTasks 71 = .ok (.invokestatic 650, 3) := by decide +kernel
theorem dX11_doTasks_74 : decode cX11_doTasks 74 = .ok (.lstore_n 3, 1) := by decide +kernel
theorem dX11_doTasks_75 : decode cX11_doTasks 75 = .ok (.aload_n 0, 1) := by decide +kernel
theorem dX11_doTasks_76 : decode cX11_doTasks 76 = .ok (.iload_n 1, 1) := by decide +kernel
theorem dX11_doTasks_77 : decode cX11_doTasks 77 = .ok (.iload 5, 2) := by decide +kernel
theorem dX11_doTasks_79 : decode cX11_doTasks 79 = .ok (.invokevirtual 673, 3) := by decide +kernel
theorem dX11_doTasks_82 : decode cX11_doTasks 82 = .ok (.aload_n 0, 1) := by decide +kernel
theorem dX11_doTasks_83 : decode cX11_doTasks 83 = .ok (.getfield 209, 3) := by decide +kernel
theorem dX11_doTasks_86 : decode cX11_doTasks 86 = .ok (.iload_n 2, 1) := by decide +kernel
theorem dX11_doTasks_87 : decode cX11_doTasks 87 = .ok (.lload_n 3, 1) := by decide +kernel
theorem dX11_doTasks_88 : decode cX11_doTasks 88 = .ok (.lastore, 1) := by decide +kernel
theorem dX11_doTasks_89 : decode cX11_doTasks 89 = .ok (.goto (-89), 3) := by decide +kernel
theorem dX11_doTasks_92 : decode cX11_doTasks 92 = .ok (.return_, 1) := by decide +kernel
theorem mw_X11_doTasks : MW yX11_doTasks (Cond.code yX11_doTasks cX11_doTasks 6 (Option.none : Option Jvm.ClassFile.FieldType)) cX11_doTasks 6 (Option.none : Option Jvm.ClassFile.FieldType) 0 := ⟨rfl, ⟨(lw_all_tbl q3323), rfl, (lw_all_tbl q173)⟩, rfl, ⟨by decide, by decide⟩, by decide +kernel⟩
abbrev okt_doTasks_0 (x : Unit) : Prop := True
abbrev lvt_doTasks_0 (Γ : Gm) (x : Unit) : List (Nat × Value) := [(0, vA (mg Γ) 21)]
noncomputable def t_doTasks_82 {A : Type} (k_92 : Mo TS A) (l2 : Int) (l3 : Int) : Mo TS ((Unit) ⊕ A) :=
  bnd (wr 99 4100 l2 l3) fun _ =>
  pr (.inl ())
theorem st_doTasks_82 {Γ : Gm} {h : CH} {d : Nat} (hT : HT h) (o : Ok Γ "LazyForgeModel" cX11_doTasks 6 (Option.none : Option Jvm.ClassFile.FieldType) (d + 3)) {A : Type} {K : A → TS → Prop}  (k_92 : Mo TS A) (hk_92 : Sx Γ (fun t => (h, t)) K 92 [] [] (k_92)) (l2 : Int) (l3 : Int) (hl2 : R32 l2) (hl3 : R64 l3) : Sx Γ (fun t => (h, t)) (KL Γ (fun t => (h, t)) okt_doTasks_0 K 0 (lvt_doTasks_0 Γ) []) 82 [(0, vA (mg Γ) 21), (2, vI l2), (3, vJ l3)] [] (t_doTasks_82 k_92 l2 l3) := by
  unfold t_doTasks_82
  refine s_aload_n o dX11_doTasks_82 rfl 0 rfl ?_
  refine s_tga (x := 86) o hT tf_fields ta_fields (lw_all_tbl q2603) dX11_doTasks_83 ?_
  refine s_iload_n o dX11_doTasks_86 rfl 1 rfl ?_
  refine s_lload_n o dX11_doTasks_87 rfl 2 rfl ?_
  refine r_tlast o hT tr_fields hl2 hl3 dX11_doTasks_88 ?_
  refine s_goto (tgt := 0) o dX11_doTasks_89 (by decide) ?_
  refine r_to [(0, vA (mg Γ) 21)] [0] rfl ?_
  exact s_back trivial rfl
noncomputable def t_doTasks_0b {A : Type} (k_92 : Mo TS A) : Mo TS ((Unit) ⊕ A) :=
  bnd (gs 128) fun v1 =>
  if v1 ≤ 0 then
    lo k_92
  else
    bnd (gs 111) fun v2 =>
    if ¬ v2 = 0 then
      lo k_92
    else
      bnd (gs 128) fun v3 =>
      bnd (ss 128 (w32 (v3 - 1))) fun _ =>
      bnd (gs 128) fun v4 =>
      bnd (rd 129 8000 v4) fun v5 =>
      bnd (gs 128) fun v6 =>
      bnd (rd 130 8000 v6) fun v7 =>
      bnd (t_plain v5) fun v8 =>
      if 0 ≤ v8 then
        t_doTasks_82 k_92 v7 v8
      else
        bnd (t_make v5) fun v9 =>
        if v9 < 0 then
          t_doTasks_82 k_92 v7 v8
        else
          bnd (t_value 3 v9) fun v10 =>
          bnd (t_fill v5 v9) fun _ =>
          t_doTasks_82 k_92 v7 v10
theorem st_doTasks_0b {Γ : Gm} {h : CH} {d : Nat} (hT : HT h) (o : Ok Γ "LazyForgeModel" cX11_doTasks 6 (Option.none : Option Jvm.ClassFile.FieldType) (d + 3)) {A : Type} {K : A → TS → Prop} (k_92 : Mo TS A) (hk_92 : Sx Γ (fun t => (h, t)) K 92 [] [] (k_92)) : Sx Γ (fun t => (h, t)) (KL Γ (fun t => (h, t)) okt_doTasks_0 K 0 (lvt_doTasks_0 Γ) []) 0 [(0, vA (mg Γ) 21)] [] (t_doTasks_0b k_92) := by
  unfold t_doTasks_0b
  refine s_aload_n o dX11_doTasks_0 rfl 0 rfl ?_
  refine r_tgf vI rfl o hT tf_tasks tj_tasks (lw_all_tbl q2632) dX11_doTasks_1 (fun v1 hv1 => ?_)
  refine s_if_le (tgt := 92) o dX11_doTasks_4 (by decide) hv1 ?_ ?_
  · refine r_to [] [] rfl ?_
    exact s_lo hk_92
  · refine s_aload_n o dX11_doTasks_7 rfl 0 rfl ?_
    refine r_tgf vI rfl o hT tf_how tj_how (lw_all_tbl q2615) dX11_doTasks_8 (fun v2 hv2 => ?_)
    refine s_if_ne (tgt := 92) o dX11_doTasks_11 (by decide) hv2 ?_ ?_
    · refine r_to [] [] rfl ?_
      exact s_lo hk_92
    · refine s_aload_n o dX11_doTasks_14 rfl 0 rfl ?_
      refine s_dup o dX11_doTasks_15 (vA_cat (mg Γ) 21) ?_
      refine r_tgf vI rfl o hT tf_tasks tj_tasks (lw_all_tbl q2632) dX11_doTasks_16 (fun v3 hv3 => ?_)
      refine s_iconst o dX11_doTasks_19 ?_
      refine s_isub o dX11_doTasks_20 ?_
      refine r_tpf vI rfl o hT tf_tasks tj_tasks (lw_all_tbl q2632) dX11_doTasks_21 (w32_R _) ty_int ?_
      refine s_aload_n o dX11_doTasks_24 rfl 0 rfl ?_
      refine s_tga (x := 94) o hT tf_taskParts ta_taskParts (lw_all_tbl q2633) dX11_doTasks_25 ?_
      refine s_aload_n o dX11_doTasks_28 rfl 0 rfl ?_
      refine r_tgf vI rfl o hT tf_tasks tj_tasks (lw_all_tbl q2632) dX11_doTasks_29 (fun v4 hv4 => ?_)
      refine r_tiald o hT tr_taskParts hv4 dX11_doTasks_32 (fun v5 hv5 => ?_)
      refine r_istore_n o dX11_doTasks_33 rfl rfl ⟨(Nat.ne_of_beq_eq_false rfl), (fun _ => (vA_cat (mg Γ) 21)), trivial⟩ ?_
      refine s_aload_n o dX11_doTasks_34 rfl 1 rfl ?_
      refine s_tga (x := 95) o hT tf_taskPlaces ta_taskPlaces (lw_all_tbl q2634) dX11_doTasks_35 ?_
      refine s_aload_n o dX11_doTasks_38 rfl 1 rfl ?_
      refine r_tgf vI rfl o hT tf_tasks tj_tasks (lw_all_tbl q2632) dX11_doTasks_39 (fun v6 hv6 => ?_)
      refine r_tiald o hT tr_taskPlaces hv6 dX11_doTasks_42 (fun v7 hv7 => ?_)
      refine r_istore_n o dX11_doTasks_43 rfl rfl ⟨(Nat.ne_of_beq_eq_false rfl), (fun _ => rfl), ⟨(Nat.ne_of_beq_eq_false rfl), (fun _ => (vA_cat (mg Γ) 21)), trivial⟩⟩ ?_
      refine s_aload_n o dX11_doTasks_44 rfl 2 rfl ?_
      refine s_iload_n o dX11_doTasks_45 rfl 1 rfl ?_
      refine s_cv (d := d + 2) (C := "LazyForgeModel") (As := [vI v5]) (st := []) o (st_plain (mg Γ) (d + 1) h hT v5 hv5) mw_X11_plain rfl (Or.inl (lw_all_tbl q3301)) (lw_all_tbl qs139) (lw_all_tbl q3303) (fun t => rc_t o hT t) wt_0 rfl dX11_doTasks_46 rfl (rs := fun r => [vJ r]) (fun _ => rfl) (fun v8 hv8 => ?_)
      refine r_lstore_n o dX11_doTasks_49 rfl rfl ⟨(Nat.ne_of_beq_eq_false rfl), (Nat.ne_of_beq_eq_false rfl), (fun _ => rfl), ⟨(Nat.ne_of_beq_eq_false rfl), (Nat.ne_of_beq_eq_false rfl), (fun _ => rfl), ⟨(Nat.ne_of_beq_eq_false rfl), (Nat.ne_of_beq_eq_false rfl), (fun _ => (vA_cat (mg Γ) 21)), trivial⟩⟩⟩ ?_
      refine s_lload_n o dX11_doTasks_50 rfl 0 rfl ?_
      refine s_lconst (x := 0) o dX11_doTasks_51 rfl ?_
      refine s_lcmp_ge (tgt := 82) o dX11_doTasks_52 dX11_doTasks_53 (by decide) (hv8 _ rfl) (r64 rfl) ?_ ?_
      · refine r_to [(0, vA (mg Γ) 21), (2, vI v7), (3, vJ v8)] [3, 1, 0] rfl ?_
        exact st_doTasks_82 hT o k_92 hk_92 v7 v8 hv7 (hv8 _ rfl)
      · refine s_aload_n o dX11_doTasks_56 rfl 3 rfl ?_
        refine s_iload_n o dX11_doTasks_57 rfl 2 rfl ?_
        refine s_cv (d := d + 2) (C := "LazyForgeModel") (As := [vI v5]) (st := []) o (st_make (mg Γ) d h hT v5 hv5) mw_X11_make rfl (Or.inl (lw_all_tbl q3305)) (lw_all_tbl qs140) (lw_all_tbl q3307) (fun t => rc_t o hT t) wt_0 rfl dX11_doTasks_58 rfl (rs := fun r => [vI r]) (fun _ => rfl) (fun v9 hv9 => ?_)
        refine r_istore o dX11_doTasks_61 rfl ⟨(Nat.ne_of_beq_eq_false rfl), (fun e => absurd e (Nat.ne_of_beq_eq_false rfl)), ⟨(Nat.ne_of_beq_eq_false rfl), (fun _ => rfl), ⟨(Nat.ne_of_beq_eq_false rfl), (fun _ => rfl), ⟨(Nat.ne_of_beq_eq_false rfl), (fun _ => (vA_cat (mg Γ) 21)), trivial⟩⟩⟩⟩ ?_
        refine s_iload o dX11_doTasks_63 0 rfl ?_
        refine s_if_lt (tgt := 82) o dX11_doTasks_65 (by decide) (hv9 _ rfl) ?_ ?_
        · refine r_to [(0, vA (mg Γ) 21), (2, vI v7), (3, vJ v8)] [4, 2, 1] rfl ?_
          exact st_doTasks_82 hT o k_92 hk_92 v7 v8 hv7 (hv8 _ rfl)
        · refine s_iconst o dX11_doTasks_68 ?_
          refine s_iload o dX11_doTasks_69 0 rfl ?_
          refine s_cs (d := d + 2) (As := [vI 3, vI v9]) (st := []) o (st_value (mg Γ) (d + 2) h 3 v9 (r32 rfl) (hv9 _ rfl)) mw_X11_value rfl (Or.inl (lw_all_tbl q3242)) (lw_all_tbl q3243) wt_0 rfl dX11_doTasks_71 rfl (rs := fun r => [vJ r]) (fun _ => rfl) (fun v10 hv10 => ?_)
          refine r_lstore_nP o dX11_doTasks_74 rfl rfl [(5, vI v9), (2, vI v7), (1, vI v5), (0, vA (mg Γ) 21)] [0, 2, 3, 4] rfl ⟨(Nat.ne_of_beq_eq_false rfl), (Nat.ne_of_beq_eq_false rfl), (fun _ => rfl), ⟨(Nat.ne_of_beq_eq_false rfl), (Nat.ne_of_beq_eq_false rfl), (fun _ => rfl), ⟨(Nat.ne_of_beq_eq_false rfl), (Nat.ne_of_beq_eq_false rfl), (fun _ => rfl), ⟨(Nat.ne_of_beq_eq_false rfl), (Nat.ne_of_beq_eq_false rfl), (fun _ => (vA_cat (mg Γ) 21)), trivial⟩⟩⟩⟩ ?_
          refine s_aload_n o dX11_doTasks_75 rfl 4 rfl ?_
          refine s_iload_n o dX11_doTasks_76 rfl 3 rfl ?_
          refine s_iload o dX11_doTasks_77 1 rfl ?_
          refine s_cv (d := d + 2) (C := "LazyForgeModel") (As := [vI v5, vI v9]) (st := []) o (st_fill (mg Γ) (d + 1) h hT v5 v9 hv5 (hv9 _ rfl)) mw_X11_fill rfl (Or.inl (lw_all_tbl q3316)) (lw_all_tbl qs142) (lw_all_tbl q3318) (fun t => rc_t o hT t) wt_0 rfl dX11_doTasks_79 rfl (rs := fun _ => []) (fun _ => rfl) (fun _ _ => ?_)
          refine r_to [(0, vA (mg Γ) 21), (2, vI v7), (3, vJ v10)] [4, 2, 0] rfl ?_
          exact st_doTasks_82 hT o k_92 hk_92 v7 v10 hv7 (hv10 _ rfl)
noncomputable def t_doTasks_0 {A : Type} (k_92 : Mo TS A) : Mo TS A := Loop (fun x => t_doTasks_0b k_92) ()
theorem st_doTasks_0 {Γ : Gm} {h : CH} {d : Nat} (hT : HT h) (o : Ok Γ "LazyForgeModel" cX11_doTasks 6 (Option.none : Option Jvm.ClassFile.FieldType) (d + 3)) {A : Type} {K : A → TS → Prop} (k_92 : Mo TS A) (hk_92 : Sx Γ (fun t => (h, t)) K 92 [] [] (k_92)) : Sx Γ (fun t => (h, t)) K 0 [(0, vA (mg Γ) 21)] [] (t_doTasks_0 k_92) :=
  s_loop okt_doTasks_0 (lvt_doTasks_0 Γ) (fun x hx => st_doTasks_0b hT o k_92 hk_92) (x := ()) trivial
noncomputable def t_doTasks : Mo TS Int :=
  t_doTasks_0
    (pr 0)
theorem st_doTasks (g : gC) (d : Nat) (h : CH) (hT : HT h) : SF g yX11_doTasks (Cond.code yX11_doTasks cX11_doTasks 6 (Option.none : Option Jvm.ClassFile.FieldType)) (Option.none : Option Jvm.ClassFile.FieldType) (d + 3) [vA g 21] (fun t => (h, t)) (t_doTasks) := by
  refine SF.of (lv := [(0, vA g 21)]) (by decide) (wt_A wt_0) rfl (by simp only [la_A, la_I, la_J, la_0]) (fun Γ hg hnm o => ?_)
  subst hg
  have o : Ok Γ "LazyForgeModel" cX11_doTasks 6 (Option.none : Option Jvm.ClassFile.FieldType) (d + 3) := o
  unfold t_doTasks
  refine st_doTasks_0 hT o _ ?_
  · exact s_vret o rfl dX11_doTasks_92 (fun _ hh => hh)
theorem dX11_apply_0 : decode cX11_apply 0 = .ok (.lload_n 1, 1) := by decide +kernel
theorem dX11_apply_1 : decode cX11_apply 1 = .ok (.invokestatic 688, 3) := by decide +kernel
theorem dX11_apply_4 : decode cX11_apply 4 = .ok (.iconst 3, 1) := by decide +kernel
theorem dX11_apply_5 : decode cX11_apply 5 = .ok (.if_icmp .ne 20, 3) := by decide +kernel
theorem dX11_apply_8 : decode cX11_apply 8 = .ok (.aload_n 0, 1) := by decide +kernel
theorem dX11_apply_9 : decode cX11_apply 9 = .ok (.getfield 194, 3) := by decide +kernel
theorem dX11_apply_12 : decode cX11_apply 12 = .ok (.lload_n 1, 1) := by decide +kernel
theorem dX11_apply_13 : decode cX11_apply 13 = .ok (.invokestatic 679, 3) := by decide +kernel
theorem dX11_apply_16 : decode cX11_apply 16 = .ok (.iaload, 1) := by decide +kernel
theorem dX11_apply_17 : decode cX11_apply 17 = .ok (.iconst 1, 1) := by decide +kernel
theorem dX11_apply_18 : decode cX11_apply 18 = .ok (.if_icmp .ne 7, 3) := by decide +kernel
theorem dX11_apply_21 : decode cX11_apply 21 = .ok (.iconst 1, 1) := by decide +kernel
theorem dX11_apply_22 : decode cX11_apply 22 = .ok (.goto 4, 3) := by decide +kernel
theorem dX11_apply_25 : decode cX11_apply 25 = .ok (.iconst 0, 1) := by decide +kernel
theorem dX11_apply_26 : decode cX11_apply 26 = .ok (.istore 4, 2) := by decide +kernel
theorem dX11_apply_28 : decode cX11_apply 28 = .ok (.iload 4, 2) := by decide +kernel
theorem dX11_apply_30 : decode cX11_apply 30 = .ok (.ifCond .ne 18, 3) := by decide +kernel
theorem dX11_apply_33 : decode cX11_apply 33 = .ok (.lload_n 1, 1) := by decide +kernel
theorem dX11_apply_34 : decode cX11_apply 34 = .ok (.invokestatic 688, 3) := by decide +kernel
theorem dX11_apply_37 : decode cX11_apply 37 = .ok (.iconst 1, 1) := by decide +kernel
theorem dX11_apply_38 : decode cX11_apply 38 = .ok (.if_icmp .eq 10, 3) := by decide +kernel
theorem dX11_apply_41 : decode cX11_apply 41 = .ok (.aload_n 0, 1) := by decide +kernel
theorem dX11_apply_42 : decode cX11_apply 42 = .ok (.iconst 2, 1) := by decide +kernel
theorem dX11_apply_43 : decode cX11_apply 43 = .ok (.iconst 4, 1) := by decide +kernel
theorem dX11_apply_44 : decode cX11_apply 44 = .ok (.invokevirtual 629, 3) := by decide +kernel
theorem dX11_apply_47 : decode cX11_apply 47 = .ok (.return_, 1) := by decide +kernel
theorem dX11_apply_48 : decode cX11_apply 48 = .ok (.iload 4, 2) := by decide +kernel
theorem dX11_apply_50 : decode cX11_apply 50 = .ok (.ifCond .eq 10, 3) := by decide +kernel
theorem dX11_apply_53 : decode cX11_apply 53 = .ok (.lload_n 1, 1) := by decide +kernel
theorem dX11_apply_54 : decode cX11_apply 54 = .ok (.invokestatic 679, 3) := by decide +kernel
theorem dX11_apply_57 : decode cX11_apply 57 = .ok (.goto 4, 3) := by decide +kernel
theorem dX11_apply_60 : decode cX11_apply 60 = .ok (.iconst (-1), 1) := by decide +kernel
theorem dX11_apply_61 : decode cX11_apply 61 = .ok (.istore 5, 2) := by decide +kernel
theorem dX11_apply_63 : decode cX11_apply 63 = .ok (.iload 4, 2) := by decide +kernel
theorem dX11_apply_65 : decode cX11_apply 65 = .ok (.ifCond .eq 13, 3) := by decide +kernel
theorem dX11_apply_68 : decode cX11_apply 68 = .ok (.aload_n 0, 1) := by decide +kernel
theorem dX11_apply_69 : decode cX11_apply 69 = .ok (.getfield 197, 3) := by decide +kernel
theorem dX11_apply_72 : decode cX11_apply 72 = .ok (.iload 5, 2) := by decide +kernel
theorem dX11_apply_74 : decode cX11_apply 74 = .ok (.iaload, 1) := by decide +kernel
theorem dX11_apply_75 : decode cX11_apply 75 = .ok (.goto 7, 3) := by decide +kernel
theorem dX11_apply_78 : decode cX11_apply 78 = .ok (.lload_n 1, 1) := by decide +kernel
theorem dX11_apply_79 : decode cX11_apply 79 = .ok (.invokestatic 679, 3) := by decide +kernel
theorem dX11_apply_82 : decode cX11_apply 82 = .ok (.istore 6, 2) := by decide +kernel
theorem dX11_apply_84 : decode cX11_apply 84 = .ok (.iload 4, 2) := by decide +kernel
theorem dX11_apply_86 : decode cX11_apply 86 = .ok (.ifCond .eq 13, 3) := by decide +kernel
theorem dX11_apply_89 : decode cX11_apply 89 = .ok (.aload_n 0, 1) := by decide +kernel
theorem dX11_apply_90 : decode cX11_apply 90 = .ok (.getfield 206, 3) := by decide +kernel
theorem dX11_apply_93 : decode cX11_apply 93 = .ok (.iload 5, 2) := by decide +kernel
theorem dX11_apply_95 : decode cX11_apply 95 = .ok (.iaload, 1) := by decide +kernel
theorem dX11_apply_96 : decode cX11_apply 96 = .ok (.goto 4, 3) := by decide +kernel
theorem dX11_apply_99 : decode cX11_apply 99 = .ok (.iconst 0, 1) := by decide +kernel
theorem dX11_apply_100 : decode cX11_apply 100 = .ok (.istore 7, 2) := by decide +kernel
theorem dX11_apply_102 : decode cX11_apply 102 = .ok (.iload 7, 2) := by decide +kernel
theorem dX11_apply_104 : decode cX11_apply 104 = .ok (.iload_n 3, 1) := by decide +kernel
theorem dX11_apply_105 : decode cX11_apply 105 = .ok (.iadd, 1) := by decide +kernel
theorem dX11_apply_106 : decode cX11_apply 106 = .ok (.aload_n 0, 1) := by decide +kernel
theorem dX11_apply_107 : decode cX11_apply 107 = .ok (.getfield 171, 3) := by decide +kernel
theorem dX11_apply_110 : decode cX11_apply 110 = .ok (.iload 6, 2) := by decide +kernel
theorem dX11_apply_112 : decode cX11_apply 112 = .ok (.iaload, 1) := by decide +kernel
theorem dX11_apply_113 : decode cX11_apply 113 = .ok (.if_icmp .lt 13, 3) := by decide +kernel
theorem dX11_apply_116 : decode cX11_apply 116 = .ok (.aload_n 0, 1) := by decide +kernel
theorem dX11_apply_117 : decode cX11_apply 117 = .ok (.iload 6, 2) := by decide +kernel
theorem dX11_apply_119 : decode cX11_apply 119 = .ok (.iload 5, 2) := by decide +kernel
theorem dX11_apply_121 : decode cX11_apply 121 = .ok (.iload_n 3, 1) := by decide +kernel
theorem dX11_apply_122 : decode cX11_apply 122 = .ok (.invokevirtual 727, 3) := by decide +kernel
theorem dX11_apply_125 : decode cX11_apply 125 = .ok (.return_, 1) := by decide +kernel
theorem dX11_apply_126 : decode cX11_apply 126 = .ok (.aload_n 0, 1) := by decide +kernel
theorem dX11_apply_127 : decode cX11_apply 127 = .ok (.iconst 1, 1) := by decide +kernel
theorem dX11_apply_128 : decode cX11_apply 128 = .ok (.iload 6, 2) := by decide +kernel
theorem dX11_apply_130 : decode cX11_apply 130 = .ok (.iload 7, 2) := by decide +kernel
theorem dX11_apply_132 : decode cX11_apply 132 = .ok (.iload_n 3, 1) := by decide +kernel
theorem dX11_apply_133 : decode cX11_apply 133 = .ok (.iadd, 1) := by decide +kernel
theorem dX11_apply_134 : decode cX11_apply 134 = .ok (.iconst 2, 1) := by decide +kernel
theorem dX11_apply_135 : decode cX11_apply 135 = .ok (.iload 7, 2) := by decide +kernel
theorem dX11_apply_137 : decode cX11_apply 137 = .ok (.iadd, 1) := by decide +kernel
theorem dX11_apply_138 : decode cX11_apply 138 = .ok (.iload_n 3, 1) := by decide +kernel
theorem dX11_apply_139 : decode cX11_apply 139 = .ok (.iadd, 1) := by decide +kernel
theorem dX11_apply_140 : decode cX11_apply 140 = .ok (.invokevirtual 653, 3) := by decide +kernel
theorem dX11_apply_143 : decode cX11_apply 143 = .ok (.istore 8, 2) := by decide +kernel
theorem dX11_apply_145 : decode cX11_apply 145 = .ok (.iload 8, 2) := by decide +kernel
theorem dX11_apply_147 : decode cX11_apply 147 = .ok (.ifCond .ge 4, 3) := by decide +kernel
theorem dX11_apply_150 : decode cX11_apply 150 = .ok (.return_, 1) := by decide +kernel
theorem dX11_apply_151 : decode cX11_apply 151 = .ok (.iconst 0, 1) := by decide +kernel
theorem dX11_apply_152 : decode cX11_apply 152 = .ok (.istore 9, 2) := by decide +kernel
theorem dX11_apply_154 : decode cX11_apply 154 = .ok (.iload 9, 2) := by decide +kernel
theorem dX11_apply_156 : decode cX11_apply 156 = .ok (.iload 7, 2) := by decide +kernel
theorem dX11_apply_158 : decode cX11_apply 158 = .ok (.if_icmp .ge 39, 3) := by decide +kernel
theorem dX11_apply_161 : decode cX11_apply 161 = .ok (.aload_n 0, 1) := by decide +kernel
theorem dX11_apply_162 : decode cX11_apply 162 = .ok (.getfield 209, 3) := by decide +kernel
theorem dX11_apply_165 : decode cX11_apply 165 = .ok (.aload_n 0, 1) := by decide +kernel
theorem dX11_apply_166 : decode cX11_apply 166 = .ok (.getfield 203, 3) := by decide +kernel
theorem dX11_apply_169 : decode cX11_apply 169 = .ok (.iload 8, 2) := by decide +kernel
theorem dX11_apply_171 : decode cX11_apply 171 = .ok (.iaload, 1) := by decide +kernel
theorem dX11_apply_172 : decode cX11_apply 172 = .ok (.iload 9, 2) := by decide +kernel
theorem dX11_apply_174 : decode cX11_apply 174 = .ok (.iadd, 1) := by decide +kernel
theorem dX11_apply_175 : decode cX11_apply 175 = .ok (.aload_n 0, 1) := by decide +kernel
theorem dX11_apply_176 : decode cX11_apply 176 = .ok (.getfield 209, 3) := by decide +kernel
theorem dX11_apply_179 : decode cX11_apply 179 = .ok (.aload_n 0, 1) := by decide +kernel
theorem dX11_apply_180 : decode cX11_apply 180 = .ok (.getfield 203, 3) := by decide +kernel
theorem dX11_apply_183 : decode cX11_apply 183 = .ok (.iload 5, 2) := by decide +kernel
theorem dX11_apply_185 : decode cX11_apply 185 = .ok (.iaload, 1) := by decide +kernel
theorem dX11_apply_186 : decode cX11_apply 186 = .ok (.iload 9, 2) := by decide +kernel
theorem dX11_apply_188 : decode cX11_apply 188 = .ok (.iadd, 1) := by decide +kernel
theorem dX11_apply_189 : decode cX11_apply 189 = .ok (.laload, 1) := by decide +kernel
theorem dX11_apply_190 : decode cX11_apply 190 = .ok (.lastore, 1) := by decide +kernel
theorem dX11_apply_191 : decode cX11_apply 191 = .ok (.iinc 9 1, 3) := by decide +kernel
theorem dX11_apply_194 : decode cX11_apply 194 = .ok (.goto (-40), 3) := by decide +kernel
theorem dX11_apply_197 : decode cX11_apply 197 = .ok (.aload_n 0, 1) := by decide +kernel
theorem dX11_apply_198 : decode cX11_apply 198 = .ok (.dup, 1) := by decide +kernel
theorem dX11_apply_199 : decode cX11_apply 199 = .ok (.getfield 724, 3) := by decide +kernel
theorem dX11_apply_202 : decode cX11_apply 202 = .ok (.iload_n 3, 1) := by decide +kernel
theorem dX11_apply_203 : decode cX11_apply 203 = .ok (.isub, 1) := by decide +kernel
theorem dX11_apply_204 : decode cX11_apply 204 = .ok (.putfield 724, 3) := by decide +kernel
theorem dX11_apply_207 : decode cX11_apply 207 = .ok (.iconst 0, 1) := by decide +kernel
theorem dX11_apply_208 : decode cX11_apply 208 = .ok (.istore 9, 2) := by decide +kernel
theorem dX11_apply_210 : decode cX11_apply 210 = .ok (.iload 9, 2) := by decide +kernel
theorem dX11_apply_212 : decode cX11_apply 212 = .ok (.iload_n 3, 1) := by decide +kernel
theorem dX11_apply_213 : decode cX11_apply 213 = .ok (.if_icmp .ge 39, 3) := by decide +kernel
theorem dX11_apply_216 : decode cX11_apply 216 = .ok (.aload_n 0, 1) := by decide +kernel
theorem dX11_apply_217 : decode cX11_apply 217 = .ok (.getfield 209, 3) := by decide +kernel
theorem dX11_apply_220 : decode cX11_apply 220 = .ok (.aload_n 0, 1) := by decide +kernel
theorem dX11_apply_221 : decode cX11_apply 221 = .ok (.getfield 203, 3) := by decide +kernel
theorem dX11_apply_224 : decode cX11_apply 224 = .ok (.iload 8, 2) := by decide +kernel
theorem dX11_apply_226 : decode cX11_apply 226 = .ok (.iaload, 1) := by decide +kernel
theorem dX11_apply_227 : decode cX11_apply 227 = .ok (.iload 7, 2) := by decide +kernel
theorem dX11_apply_229 : decode cX11_apply 229 = .ok (.iadd, 1) := by decide +kernel
theorem dX11_apply_230 : decode cX11_apply 230 = .ok (.iload 9, 2) := by decide +kernel
theorem dX11_apply_232 : decode cX11_apply 232 = .ok (.iadd, 1) := by decide +kernel
theorem dX11_apply_233 : decode cX11_apply 233 = .ok (.aload_n 0, 1) := by decide +kernel
theorem dX11_apply_234 : decode cX11_apply 234 = .ok (.getfield 229, 3) := by decide +kernel
theorem dX11_apply_237 : decode cX11_apply 237 = .ok (.aload_n 0, 1) := by decide +kernel
theorem dX11_apply_238 : decode cX11_apply 238 = .ok (.getfield 724, 3) := by decide +kernel
theorem dX11_apply_241 : decode cX11_apply 241 = .ok (.iload 9, 2) := by decide +kernel
theorem dX11_apply_243 : decode cX11_apply 243 = .ok (.iadd, 1) := by decide +kernel
theorem dX11_apply_244 : decode cX11_apply 244 = .ok (.laload, 1) := by decide +kernel
theorem dX11_apply_245 : decode cX11_apply 245 = .ok (.lastore, 1) := by decide +kernel
theorem dX11_apply_246 : decode cX11_apply 246 = .ok (.iinc 9 1, 3) := by decide +kernel
theorem dX11_apply_249 : decode cX11_apply 249 = .ok (.goto (-39), 3) := by decide +kernel
theorem dX11_apply_252 : decode cX11_apply 252 = .ok (.aload_n 0, 1) := by decide +kernel
theorem dX11_apply_253 : decode cX11_apply 253 = .ok (.iconst 3, 1) := by decide +kernel
theorem dX11_apply_254 : decode cX11_apply 254 = .ok (.iload 8, 2) := by decide +kernel
theorem dX11_apply_256 : decode cX11_apply 256 = .ok (.invokestatic 650, 3) := by decide +kernel
theorem dX11_apply_259 : decode cX11_apply 259 = .ok (.invokevirtual 691, 3) := by decide +kernel
theorem dX11_apply_262 : decode cX11_apply 262 = .ok (.return_, 1) := by decide +kernel
theorem mw_X11_apply : MW yX11_apply (Cond.code yX11_apply cX11_apply 10 (Option.none : Option Jvm.ClassFile.FieldType)) cX11_apply 10 (Option.none : Option Jvm.ClassFile.FieldType) 2 := ⟨rfl, ⟨(lw_all_tbl q3331), rfl, (lw_all_tbl q173)⟩, rfl, ⟨by decide, by decide⟩, by decide +kernel⟩
abbrev okt_apply_154 (x : Int × Int × Int × Int × Int) : Prop := R32 x.1 ∧ R32 x.2.1 ∧ R32 x.2.2.1 ∧ R32 x.2.2.2.1 ∧ R32 x.2.2.2.2
abbrev lvt_apply_154 (Γ : Gm) (x : Int × Int × Int × Int × Int) : List (Nat × Value) := [(0, vA (mg Γ) 21), (3, vI x.1), (5, vI x.2.1), (7, vI x.2.2.1), (8, vI x.2.2.2.1), (9, vI x.2.2.2.2)]
noncomputable def t_apply_154b {A : Type} (k_197 : Int → Int → Int → Mo TS A) (l3 : Int) (l5 : Int) (l7 : Int) (l8 : Int) (l9 : Int) : Mo TS ((Int × Int × Int × Int × Int) ⊕ A) :=
  if l7 ≤ l9 then
    lo (k_197 l3 l7 l8)
  else
    bnd (rd 95 4100 l8) fun v1 =>
    bnd (rd 95 4100 l5) fun v2 =>
    bnd (rd 99 4100 (w32 (v2 + l9))) fun v3 =>
    bnd (wr 99 4100 (w32 (v1 + l9)) v3) fun _ =>
    pr (.inl (l3, l5, l7, l8, (w32 (l9 + 1))))
theorem st_apply_154b {Γ : Gm} {h : CH} {d : Nat} (hT : HT h) (o : Ok Γ "LazyForgeModel" cX11_apply 10 (Option.none : Option Jvm.ClassFile.FieldType) (d + 3)) {A : Type} {K : A → TS → Prop} (k_197 : Int → Int → Int → Mo TS A) (hk_197 : ∀ (l3 : Int) (l7 : Int) (l8 : Int), R32 l3 → R32 l7 → R32 l8 → Sx Γ (fun t => (h, t)) K 197 [(0, vA (mg Γ) 21), (3, vI l3), (7, vI l7), (8, vI l8)] [] (k_197 l3 l7 l8)) (l3 : Int) (l5 : Int) (l7 : Int) (l8 : Int) (l9 : Int) (hl3 : R32 l3) (hl5 : R32 l5) (hl7 : R32 l7) (hl8 : R32 l8) (hl9 : R32 l9) : Sx Γ (fun t => (h, t)) (KL Γ (fun t => (h, t)) okt_apply_154 K 154 (lvt_apply_154 Γ) []) 154 [(0, vA (mg Γ) 21), (3, vI l3), (5, vI l5), (7, vI l7), (8, vI l8), (9, vI l9)] [] (t_apply_154b k_197 l3 l5 l7 l8 l9) := by
  unfold t_apply_154b
  refine s_iload o dX11_apply_154 5 rfl ?_
  refine s_iload o dX11_apply_156 3 rfl ?_
  refine s_icmp_ge (tgt := 197) o dX11_apply_158 (by decide) hl9 hl7 ?_ ?_
  · refine r_to [(0, vA (mg Γ) 21), (3, vI l3), (7, vI l7), (8, vI l8)] [0, 1, 3, 4] rfl ?_
    exact s_lo (hk_197 l3 l7 l8 hl3 hl7 hl8)
  · refine s_aload_n o dX11_apply_161 rfl 0 rfl ?_
    refine s_tga (x := 86) o hT tf_fields ta_fields (lw_all_tbl q2603) dX11_apply_162 ?_
    refine s_aload_n o dX11_apply_165 rfl 0 rfl ?_
    refine s_tga (x := 84) o hT tf_cellBegins ta_cellBegins (lw_all_tbl q2599) dX11_apply_166 ?_
    refine s_iload o dX11_apply_169 4 rfl ?_
    refine r_tiald o hT tr_cellBegins hl8 dX11_apply_171 (fun v1 hv1 => ?_)
    refine s_iload o dX11_apply_172 5 rfl ?_
    refine s_iadd o dX11_apply_174 ?_
    refine s_aload_n o dX11_apply_175 rfl 0 rfl ?_
    refine s_tga (x := 86) o hT tf_fields ta_fields (lw_all_tbl q2603) dX11_apply_176 ?_
    refine s_aload_n o dX11_apply_179 rfl 0 rfl ?_
    refine s_tga (x := 84) o hT tf_cellBegins ta_cellBegins (lw_all_tbl q2599) dX11_apply_180 ?_
    refine s_iload o dX11_apply_183 2 rfl ?_
    refine r_tiald o hT tr_cellBegins hl5 dX11_apply_185 (fun v2 hv2 => ?_)
    refine s_iload o dX11_apply_186 5 rfl ?_
    refine s_iadd o dX11_apply_188 ?_
    refine r_tlald o hT tr_fields (w32_R _) dX11_apply_189 (fun v3 hv3 => ?_)
    refine r_tlast o hT tr_fields (w32_R _) hv3 dX11_apply_190 ?_
    refine r_iinc (j := 5) o dX11_apply_191 rfl rfl [(0, vA (mg Γ) 21), (3, vI l3), (5, vI l5), (7, vI l7), (8, vI l8)] [0, 1, 2, 3, 4] rfl ⟨(Nat.ne_of_beq_eq_false rfl), (fun _ => (vA_cat (mg Γ) 21)), ⟨(Nat.ne_of_beq_eq_false rfl), (fun _ => rfl), ⟨(Nat.ne_of_beq_eq_false rfl), (fun _ => rfl), ⟨(Nat.ne_of_beq_eq_false rfl), (fun _ => rfl), ⟨(Nat.ne_of_beq_eq_false rfl), (fun _ => rfl), trivial⟩⟩⟩⟩⟩ ?_
    refine s_goto (tgt := 154) o dX11_apply_194 (by decide) ?_
    refine r_to [(0, vA (mg Γ) 21), (3, vI l3), (5, vI l5), (7, vI l7), (8, vI l8), (9, vI (w32 (l9 + 1)))] [1, 2, 3, 4, 5, 0] rfl ?_
    exact s_back (⟨hl3, hl5, hl7, hl8, (w32_R _)⟩) rfl
noncomputable def t_apply_154 {A : Type} (k_197 : Int → Int → Int → Mo TS A) (l3 : Int) (l5 : Int) (l7 : Int) (l8 : Int) (l9 : Int) : Mo TS A := Loop (fun x => t_apply_154b k_197 x.1 x.2.1 x.2.2.1 x.2.2.2.1 x.2.2.2.2) (l3, l5, l7, l8, l9)
theorem st_apply_154 {Γ : Gm} {h : CH} {d : Nat} (hT : HT h) (o : Ok Γ "LazyForgeModel" cX11_apply 10 (Option.none : Option Jvm.ClassFile.FieldType) (d + 3)) {A : Type} {K : A → TS → Prop} (k_197 : Int → Int → Int → Mo TS A) (hk_197 : ∀ (l3 : Int) (l7 : Int) (l8 : Int), R32 l3 → R32 l7 → R32 l8 → Sx Γ (fun t => (h, t)) K 197 [(0, vA (mg Γ) 21), (3, vI l3), (7, vI l7), (8, vI l8)] [] (k_197 l3 l7 l8)) (l3 : Int) (l5 : Int) (l7 : Int) (l8 : Int) (l9 : Int) (hl3 : R32 l3) (hl5 : R32 l5) (hl7 : R32 l7) (hl8 : R32 l8) (hl9 : R32 l9) : Sx Γ (fun t => (h, t)) K 154 [(0, vA (mg Γ) 21), (3, vI l3), (5, vI l5), (7, vI l7), (8, vI l8), (9, vI l9)] [] (t_apply_154 k_197 l3 l5 l7 l8 l9) :=
  s_loop okt_apply_154 (lvt_apply_154 Γ) (fun x hx => st_apply_154b hT o k_197 hk_197 x.1 x.2.1 x.2.2.1 x.2.2.2.1 x.2.2.2.2 hx.1 hx.2.1 hx.2.2.1 hx.2.2.2.1 hx.2.2.2.2) (x := (l3, l5, l7, l8, l9)) ⟨hl3, hl5, hl7, hl8, hl9⟩
abbrev okt_apply_210 (x : Int × Int × Int × Int) : Prop := R32 x.1 ∧ R32 x.2.1 ∧ R32 x.2.2.1 ∧ R32 x.2.2.2
abbrev lvt_apply_210 (Γ : Gm) (x : Int × Int × Int × Int) : List (Nat × Value) := [(0, vA (mg Γ) 21), (3, vI x.1), (7, vI x.2.1), (8, vI x.2.2.1), (9, vI x.2.2.2)]
noncomputable def t_apply_210b {A : Type} (k_252 : Int → Mo TS A) (l3 : Int) (l7 : Int) (l8 : Int) (l9 : Int) : Mo TS ((Int × Int × Int × Int) ⊕ A) :=
  if l3 ≤ l9 then
    lo (k_252 l8)
  else
    bnd (rd 95 4100 l8) fun v1 =>
    bnd (gs 120) fun v2 =>
    bnd (rd 121 580000 (w32 (v2 + l9))) fun v3 =>
    bnd (wr 99 4100 (w32 ((w32 (v1 + l7)) + l9)) v3) fun _ =>
    pr (.inl (l3, l7, l8, (w32 (l9 + 1))))
theorem st_apply_210b {Γ : Gm} {h : CH} {d : Nat} (hT : HT h) (o : Ok Γ "LazyForgeModel" cX11_apply 10 (Option.none : Option Jvm.ClassFile.FieldType) (d + 3)) {A : Type} {K : A → TS → Prop} (k_252 : Int → Mo TS A) (hk_252 : ∀ (l8 : Int), R32 l8 → Sx Γ (fun t => (h, t)) K 252 [(0, vA (mg Γ) 21), (8, vI l8)] [] (k_252 l8)) (l3 : Int) (l7 : Int) (l8 : Int) (l9 : Int) (hl3 : R32 l3) (hl7 : R32 l7) (hl8 : R32 l8) (hl9 : R32 l9) : Sx Γ (fun t => (h, t)) (KL Γ (fun t => (h, t)) okt_apply_210 K 210 (lvt_apply_210 Γ) []) 210 [(0, vA (mg Γ) 21), (3, vI l3), (7, vI l7), (8, vI l8), (9, vI l9)] [] (t_apply_210b k_252 l3 l7 l8 l9) := by
  unfold t_apply_210b
  refine s_iload o dX11_apply_210 4 rfl ?_
  refine s_iload_n o dX11_apply_212 rfl 1 rfl ?_
  refine s_icmp_ge (tgt := 252) o dX11_apply_213 (by decide) hl9 hl3 ?_ ?_
  · refine r_to [(0, vA (mg Γ) 21), (8, vI l8)] [0, 3] rfl ?_
    exact s_lo (hk_252 l8 hl8)
  · refine s_aload_n o dX11_apply_216 rfl 0 rfl ?_
    refine s_tga (x := 86) o hT tf_fields ta_fields (lw_all_tbl q2603) dX11_apply_217 ?_
    refine s_aload_n o dX11_apply_220 rfl 0 rfl ?_
    refine s_tga (x := 84) o hT tf_cellBegins ta_cellBegins (lw_all_tbl q2599) dX11_apply_221 ?_
    refine s_iload o dX11_apply_224 3 rfl ?_
    refine r_tiald o hT tr_cellBegins hl8 dX11_apply_226 (fun v1 hv1 => ?_)
    refine s_iload o dX11_apply_227 2 rfl ?_
    refine s_iadd o dX11_apply_229 ?_
    refine s_iload o dX11_apply_230 4 rfl ?_
    refine s_iadd o dX11_apply_232 ?_
    refine s_aload_n o dX11_apply_233 rfl 0 rfl ?_
    refine s_tga (x := 92) o hT tf_stack ta_stack (lw_all_tbl q2625) dX11_apply_234 ?_
    refine s_aload_n o dX11_apply_237 rfl 0 rfl ?_
    refine r_tgf vI rfl o hT tf_top tj_top (lw_all_tbl q2624) dX11_apply_238 (fun v2 hv2 => ?_)
    refine s_iload o dX11_apply_241 4 rfl ?_
    refine s_iadd o dX11_apply_243 ?_
    refine r_tlald o hT tr_stack (w32_R _) dX11_apply_244 (fun v3 hv3 => ?_)
    refine r_tlast o hT tr_fields (w32_R _) hv3 dX11_apply_245 ?_
    refine r_iinc (j := 4) o dX11_apply_246 rfl rfl [(0, vA (mg Γ) 21), (3, vI l3), (7, vI l7), (8, vI l8)] [0, 1, 2, 3] rfl ⟨(Nat.ne_of_beq_eq_false rfl), (fun _ => (vA_cat (mg Γ) 21)), ⟨(Nat.ne_of_beq_eq_false rfl), (fun _ => rfl), ⟨(Nat.ne_of_beq_eq_false rfl), (fun _ => rfl), ⟨(Nat.ne_of_beq_eq_false rfl), (fun _ => rfl), trivial⟩⟩⟩⟩ ?_
    refine s_goto (tgt := 210) o dX11_apply_249 (by decide) ?_
    refine r_to [(0, vA (mg Γ) 21), (3, vI l3), (7, vI l7), (8, vI l8), (9, vI (w32 (l9 + 1)))] [1, 2, 3, 4, 0] rfl ?_
    exact s_back (⟨hl3, hl7, hl8, (w32_R _)⟩) rfl
noncomputable def t_apply_210 {A : Type} (k_252 : Int → Mo TS A) (l3 : Int) (l7 : Int) (l8 : Int) (l9 : Int) : Mo TS A := Loop (fun x => t_apply_210b k_252 x.1 x.2.1 x.2.2.1 x.2.2.2) (l3, l7, l8, l9)
theorem st_apply_210 {Γ : Gm} {h : CH} {d : Nat} (hT : HT h) (o : Ok Γ "LazyForgeModel" cX11_apply 10 (Option.none : Option Jvm.ClassFile.FieldType) (d + 3)) {A : Type} {K : A → TS → Prop} (k_252 : Int → Mo TS A) (hk_252 : ∀ (l8 : Int), R32 l8 → Sx Γ (fun t => (h, t)) K 252 [(0, vA (mg Γ) 21), (8, vI l8)] [] (k_252 l8)) (l3 : Int) (l7 : Int) (l8 : Int) (l9 : Int) (hl3 : R32 l3) (hl7 : R32 l7) (hl8 : R32 l8) (hl9 : R32 l9) : Sx Γ (fun t => (h, t)) K 210 [(0, vA (mg Γ) 21), (3, vI l3), (7, vI l7), (8, vI l8), (9, vI l9)] [] (t_apply_210 k_252 l3 l7 l8 l9) :=
  s_loop okt_apply_210 (lvt_apply_210 Γ) (fun x hx => st_apply_210b hT o k_252 hk_252 x.1 x.2.1 x.2.2.1 x.2.2.2 hx.1 hx.2.1 hx.2.2.1 hx.2.2.2) (x := (l3, l7, l8, l9)) ⟨hl3, hl7, hl8, hl9⟩
noncomputable def t_apply_100  (l3 : Int) (l5 : Int) (l6 : Int) (k0 : Int) : Mo TS Int :=
  bnd (rd 82 640 l6) fun v1 =>
  if (w32 (k0 + l3)) < v1 then
    bnd (t_newCell 1 l6 (w32 (k0 + l3)) (w32 ((w32 (2 + k0)) + l3))) fun v2 =>
    if 0 ≤ v2 then
      t_apply_154
        (fun v3 v4 v5 => bnd (gs 120) fun v6 =>
      bnd (ss 120 (w32 (v6 - v3))) fun _ =>
      t_apply_210
        (fun v7 => bnd (t_value 3 v7) fun v8 =>
      bnd (t_gives v8) fun _ =>
      pr 0) v3 v4 v5 0) l3 l5 k0 v2 0
    else
      pr 0
  else
    bnd (t_call l6 l5 l3) fun _ =>
    pr 0
theorem st_apply_100 {Γ : Gm} {h : CH} {d : Nat} (hT : HT h) (o : Ok Γ "LazyForgeModel" cX11_apply 10 (Option.none : Option Jvm.ClassFile.FieldType) (d + 3))   (l3 : Int) (l5 : Int) (l6 : Int) (k0 : Int) (hl3 : R32 l3) (hl5 : R32 l5) (hl6 : R32 l6) (hk0 : R32 k0) : Sx Γ (fun t => (h, t)) (fun a s => mt Γ = (0, a, ((h, s) : Wd))) 100 [(0, vA (mg Γ) 21), (3, vI l3), (5, vI l5), (6, vI l6)] [vI k0] (t_apply_100 l3 l5 l6 k0) := by
  unfold t_apply_100
  refine r_istore o dX11_apply_100 rfl ⟨(Nat.ne_of_beq_eq_false rfl), (fun _ => (vA_cat (mg Γ) 21)), ⟨(Nat.ne_of_beq_eq_false rfl), (fun _ => rfl), ⟨(Nat.ne_of_beq_eq_false rfl), (fun _ => rfl), ⟨(Nat.ne_of_beq_eq_false rfl), (fun _ => rfl), trivial⟩⟩⟩⟩ ?_
  refine s_iload o dX11_apply_102 0 rfl ?_
  refine s_iload_n o dX11_apply_104 rfl 2 rfl ?_
  refine s_iadd o dX11_apply_105 ?_
  refine s_aload_n o dX11_apply_106 rfl 1 rfl ?_
  refine s_tga (x := 75) o hT tf_parameterCounts ta_parameterCounts (lw_all_tbl q2586) dX11_apply_107 ?_
  refine s_iload o dX11_apply_110 4 rfl ?_
  refine r_tiald o hT tr_parameterCounts hl6 dX11_apply_112 (fun v1 hv1 => ?_)
  refine s_icmp_lt (tgt := 126) o dX11_apply_113 (by decide) (w32_R _) hv1 ?_ ?_
  · refine s_aload_n o dX11_apply_126 rfl 1 rfl ?_
    refine s_iconst o dX11_apply_127 ?_
    refine s_iload o dX11_apply_128 4 rfl ?_
    refine s_iload o dX11_apply_130 0 rfl ?_
    refine s_iload_n o dX11_apply_132 rfl 2 rfl ?_
    refine s_iadd o dX11_apply_133 ?_
    refine s_iconst o dX11_apply_134 ?_
    refine s_iload o dX11_apply_135 0 rfl ?_
    refine s_iadd o dX11_apply_137 ?_
    refine s_iload_n o dX11_apply_138 rfl 2 rfl ?_
    refine s_iadd o dX11_apply_139 ?_
    refine s_cv (d := d + 2) (C := "LazyForgeModel") (As := [vI 1, vI l6, vI (w32 (k0 + l3)), vI (w32 ((w32 (2 + k0)) + l3))]) (st := []) o (st_newCell (mg Γ) (d + 1) h hT 1 l6 (w32 (k0 + l3)) (w32 ((w32 (2 + k0)) + l3)) (r32 rfl) hl6 (w32_R _) (w32_R _)) mw_X11_newCell rfl (Or.inl (lw_all_tbl q3234)) (lw_all_tbl qs125) (lw_all_tbl q3236) (fun t => rc_t o hT t) wt_0 rfl dX11_apply_140 rfl (rs := fun r => [vI r]) (fun _ => rfl) (fun v2 hv2 => ?_)
    refine r_istore o dX11_apply_143 rfl ⟨(Nat.ne_of_beq_eq_false rfl), (fun _ => rfl), ⟨(Nat.ne_of_beq_eq_false rfl), (fun _ => (vA_cat (mg Γ) 21)), ⟨(Nat.ne_of_beq_eq_false rfl), (fun _ => rfl), ⟨(Nat.ne_of_beq_eq_false rfl), (fun _ => rfl), ⟨(Nat.ne_of_beq_eq_false rfl), (fun _ => rfl), trivial⟩⟩⟩⟩⟩ ?_
    refine s_iload o dX11_apply_145 0 rfl ?_
    refine s_if_ge (tgt := 151) o dX11_apply_147 (by decide) (hv2 _ rfl) ?_ ?_
    · refine s_iconst o dX11_apply_151 ?_
      refine r_istore o dX11_apply_152 rfl ⟨(Nat.ne_of_beq_eq_false rfl), (fun _ => rfl), ⟨(Nat.ne_of_beq_eq_false rfl), (fun _ => rfl), ⟨(Nat.ne_of_beq_eq_false rfl), (fun _ => (vA_cat (mg Γ) 21)), ⟨(Nat.ne_of_beq_eq_false rfl), (fun _ => rfl), ⟨(Nat.ne_of_beq_eq_false rfl), (fun _ => rfl), ⟨(Nat.ne_of_beq_eq_false rfl), (fun _ => rfl), trivial⟩⟩⟩⟩⟩⟩ ?_
      refine r_to [(0, vA (mg Γ) 21), (3, vI l3), (5, vI l5), (7, vI k0), (8, vI v2), (9, vI 0)] [3, 4, 5, 2, 1, 0] rfl ?_
      refine st_apply_154 hT o _ ?_ l3 l5 k0 v2 0 hl3 hl5 hk0 (hv2 _ rfl) (r32 rfl)
      · intro v3 v4 v5 hv3 hv4 hv5
        refine s_aload_n o dX11_apply_197 rfl 0 rfl ?_
        refine s_dup o dX11_apply_198 (vA_cat (mg Γ) 21) ?_
        refine r_tgf vI rfl o hT tf_top tj_top (lw_all_tbl q2624) dX11_apply_199 (fun v6 hv6 => ?_)
        refine s_iload_n o dX11_apply_202 rfl 1 rfl ?_
        refine s_isub o dX11_apply_203 ?_
        refine r_tpf vI rfl o hT tf_top tj_top (lw_all_tbl q2624) dX11_apply_204 (w32_R _) ty_int ?_
        refine s_iconst o dX11_apply_207 ?_
        refine r_istore o dX11_apply_208 rfl ⟨(Nat.ne_of_beq_eq_false rfl), (fun _ => (vA_cat (mg Γ) 21)), ⟨(Nat.ne_of_beq_eq_false rfl), (fun _ => rfl), ⟨(Nat.ne_of_beq_eq_false rfl), (fun _ => rfl), ⟨(Nat.ne_of_beq_eq_false rfl), (fun _ => rfl), trivial⟩⟩⟩⟩ ?_
        refine r_to [(0, vA (mg Γ) 21), (3, vI v3), (7, vI v4), (8, vI v5), (9, vI 0)] [1, 2, 3, 4, 0] rfl ?_
        refine st_apply_210 hT o _ ?_ v3 v4 v5 0 hv3 hv4 hv5 (r32 rfl)
        · intro v7 hv7
          refine s_aload_n o dX11_apply_252 rfl 0 rfl ?_
          refine s_iconst o dX11_apply_253 ?_
          refine s_iload o dX11_apply_254 1 rfl ?_
          refine s_cs (d := d + 2) (As := [vI 3, vI v7]) (st := [vA (mg Γ) 21]) o (st_value (mg Γ) (d + 2) h 3 v7 (r32 rfl) hv7) mw_X11_value rfl (Or.inl (lw_all_tbl q3242)) (lw_all_tbl q3243) (wt_A wt_0) rfl dX11_apply_256 rfl (rs := fun r => [vJ r, vA (mg Γ) 21]) (fun _ => rfl) (fun v8 hv8 => ?_)
          refine s_cv (d := d + 2) (C := "LazyForgeModel") (As := [vJ v8]) (st := []) o (st_gives (mg Γ) (d + 2) h hT v8 (hv8 _ rfl)) mw_X11_gives rfl (Or.inl (lw_all_tbl q3257)) (lw_all_tbl qs129) (lw_all_tbl q3259) (fun t => rc_t o hT t) wt_0 rfl dX11_apply_259 rfl (rs := fun _ => []) (fun _ => rfl) (fun _ _ => ?_)
          exact s_vret o rfl dX11_apply_262 (fun _ hh => hh)
    · exact s_vret o rfl dX11_apply_150 (fun _ hh => hh)
  · refine s_aload_n o dX11_apply_116 rfl 1 rfl ?_
    refine s_iload o dX11_apply_117 4 rfl ?_
    refine s_iload o dX11_apply_119 3 rfl ?_
    refine s_iload_n o dX11_apply_121 rfl 2 rfl ?_
    refine s_cv (d := d + 2) (C := "LazyForgeModel") (As := [vI l6, vI l5, vI l3]) (st := []) o (st_call (mg Γ) d h hT l6 l5 l3 hl6 hl5 hl3) mw_X11_call rfl (Or.inl (lw_all_tbl q3324)) (lw_all_tbl qs144) (lw_all_tbl q3326) (fun t => rc_t o hT t) wt_0 rfl dX11_apply_122 rfl (rs := fun _ => []) (fun _ => rfl) (fun _ _ => ?_)
    exact s_vret o rfl dX11_apply_125 (fun _ hh => hh)
noncomputable def t_apply_82  (l3 : Int) (l4 : Int) (l5 : Int) (k0 : Int) : Mo TS Int :=
  if l4 = 0 then
    t_apply_100 l3 l5 k0 0
  else
    bnd (rd 96 4100 l5) fun v1 =>
    t_apply_100 l3 l5 k0 v1
theorem st_apply_82 {Γ : Gm} {h : CH} {d : Nat} (hT : HT h) (o : Ok Γ "LazyForgeModel" cX11_apply 10 (Option.none : Option Jvm.ClassFile.FieldType) (d + 3))   (l3 : Int) (l4 : Int) (l5 : Int) (k0 : Int) (hl3 : R32 l3) (hl4 : rg .boolean l4) (hl5 : R32 l5) (hk0 : R32 k0) : Sx Γ (fun t => (h, t)) (fun a s => mt Γ = (0, a, ((h, s) : Wd))) 82 [(0, vA (mg Γ) 21), (3, vI l3), (4, vI l4), (5, vI l5)] [vI k0] (t_apply_82 l3 l4 l5 k0) := by
  unfold t_apply_82
  refine r_istore o dX11_apply_82 rfl ⟨(Nat.ne_of_beq_eq_false rfl), (fun _ => (vA_cat (mg Γ) 21)), ⟨(Nat.ne_of_beq_eq_false rfl), (fun _ => rfl), ⟨(Nat.ne_of_beq_eq_false rfl), (fun _ => rfl), ⟨(Nat.ne_of_beq_eq_false rfl), (fun _ => rfl), trivial⟩⟩⟩⟩ ?_
  refine s_iload o dX11_apply_84 3 rfl ?_
  refine s_if_eq (tgt := 99) o dX11_apply_86 (by decide) (rZ hl4) ?_ ?_
  · refine s_iconst o dX11_apply_99 ?_
    refine r_to [(0, vA (mg Γ) 21), (3, vI l3), (5, vI l5), (6, vI k0)] [1, 2, 4, 0] rfl ?_
    exact st_apply_100 hT o l3 l5 k0 0 hl3 hl5 hk0 (r32 rfl)
  · refine s_aload_n o dX11_apply_89 rfl 1 rfl ?_
    refine s_tga (x := 85) o hT tf_cellCounts ta_cellCounts (lw_all_tbl q2600) dX11_apply_90 ?_
    refine s_iload o dX11_apply_93 4 rfl ?_
    refine r_tiald o hT tr_cellCounts hl5 dX11_apply_95 (fun v1 hv1 => ?_)
    refine s_goto (tgt := 100) o dX11_apply_96 (by decide) ?_
    refine r_to [(0, vA (mg Γ) 21), (3, vI l3), (5, vI l5), (6, vI k0)] [1, 2, 4, 0] rfl ?_
    exact st_apply_100 hT o l3 l5 k0 v1 hl3 hl5 hk0 hv1
noncomputable def t_apply_61  (l1 : Int) (l3 : Int) (l4 : Int) (k0 : Int) : Mo TS Int :=
  if l4 = 0 then
    bnd (t_of l1) fun v1 =>
    t_apply_82 l3 l4 k0 v1
  else
    bnd (rd 93 4100 k0) fun v2 =>
    t_apply_82 l3 l4 k0 v2
theorem st_apply_61 {Γ : Gm} {h : CH} {d : Nat} (hT : HT h) (o : Ok Γ "LazyForgeModel" cX11_apply 10 (Option.none : Option Jvm.ClassFile.FieldType) (d + 3))   (l1 : Int) (l3 : Int) (l4 : Int) (k0 : Int) (hl1 : R64 l1) (hl3 : R32 l3) (hl4 : rg .boolean l4) (hk0 : R32 k0) : Sx Γ (fun t => (h, t)) (fun a s => mt Γ = (0, a, ((h, s) : Wd))) 61 [(0, vA (mg Γ) 21), (1, vJ l1), (3, vI l3), (4, vI l4)] [vI k0] (t_apply_61 l1 l3 l4 k0) := by
  unfold t_apply_61
  refine r_istore o dX11_apply_61 rfl ⟨(Nat.ne_of_beq_eq_false rfl), (fun _ => (vA_cat (mg Γ) 21)), ⟨(Nat.ne_of_beq_eq_false rfl), (fun e => absurd e (Nat.ne_of_beq_eq_false rfl)), ⟨(Nat.ne_of_beq_eq_false rfl), (fun _ => rfl), ⟨(Nat.ne_of_beq_eq_false rfl), (fun _ => rfl), trivial⟩⟩⟩⟩ ?_
  refine s_iload o dX11_apply_63 4 rfl ?_
  refine s_if_eq (tgt := 78) o dX11_apply_65 (by decide) (rZ hl4) ?_ ?_
  · refine s_lload_n o dX11_apply_78 rfl 2 rfl ?_
    refine s_cs (d := d + 2) (As := [vJ l1]) (st := []) o (st_of (mg Γ) (d + 2) h l1 hl1) mw_X11_of rfl (Or.inl (lw_all_tbl q3261)) (lw_all_tbl q3262) wt_0 rfl dX11_apply_79 rfl (rs := fun r => [vI r]) (fun _ => rfl) (fun v1 hv1 => ?_)
    refine r_to [(0, vA (mg Γ) 21), (3, vI l3), (4, vI l4), (5, vI k0)] [1, 3, 4, 0] rfl ?_
    exact st_apply_82 hT o l3 l4 k0 v1 hl3 hl4 hk0 (hv1 _ rfl)
  · refine s_aload_n o dX11_apply_68 rfl 1 rfl ?_
    refine s_tga (x := 82) o hT tf_cellValues ta_cellValues (lw_all_tbl q2597) dX11_apply_69 ?_
    refine s_iload o dX11_apply_72 0 rfl ?_
    refine r_tiald o hT tr_cellValues hk0 dX11_apply_74 (fun v2 hv2 => ?_)
    refine s_goto (tgt := 82) o dX11_apply_75 (by decide) ?_
    refine r_to [(0, vA (mg Γ) 21), (3, vI l3), (4, vI l4), (5, vI k0)] [1, 3, 4, 0] rfl ?_
    exact st_apply_82 hT o l3 l4 k0 v2 hl3 hl4 hk0 hv2
noncomputable def t_apply_48  (l1 : Int) (l3 : Int) (l4 : Int) : Mo TS Int :=
  if l4 = 0 then
    t_apply_61 l1 l3 l4 (-1)
  else
    bnd (t_of l1) fun v1 =>
    t_apply_61 l1 l3 l4 v1
theorem st_apply_48 {Γ : Gm} {h : CH} {d : Nat} (hT : HT h) (o : Ok Γ "LazyForgeModel" cX11_apply 10 (Option.none : Option Jvm.ClassFile.FieldType) (d + 3))   (l1 : Int) (l3 : Int) (l4 : Int) (hl1 : R64 l1) (hl3 : R32 l3) (hl4 : rg .boolean l4) : Sx Γ (fun t => (h, t)) (fun a s => mt Γ = (0, a, ((h, s) : Wd))) 48 [(0, vA (mg Γ) 21), (1, vJ l1), (3, vI l3), (4, vI l4)] [] (t_apply_48 l1 l3 l4) := by
  unfold t_apply_48
  refine s_iload o dX11_apply_48 3 rfl ?_
  refine s_if_eq (tgt := 60) o dX11_apply_50 (by decide) (rZ hl4) ?_ ?_
  · refine s_iconst o dX11_apply_60 ?_
    exact st_apply_61 hT o l1 l3 l4 (-1) hl1 hl3 hl4 (r32 rfl)
  · refine s_lload_n o dX11_apply_53 rfl 1 rfl ?_
    refine s_cs (d := d + 2) (As := [vJ l1]) (st := []) o (st_of (mg Γ) (d + 2) h l1 hl1) mw_X11_of rfl (Or.inl (lw_all_tbl q3261)) (lw_all_tbl q3262) wt_0 rfl dX11_apply_54 rfl (rs := fun r => [vI r]) (fun _ => rfl) (fun v1 hv1 => ?_)
    refine s_goto (tgt := 61) o dX11_apply_57 (by decide) ?_
    exact st_apply_61 hT o l1 l3 l4 v1 hl1 hl3 hl4 (hv1 _ rfl)
noncomputable def t_apply_26  (l1 : Int) (l3 : Int) (k0 : Int) : Mo TS Int :=
  if ¬ k0 = 0 then
    t_apply_48 l1 l3 k0
  else
    bnd (t_kindOf l1) fun v1 =>
    if v1 = 1 then
      t_apply_48 l1 l3 k0
    else
      bnd (t_ends 2 4) fun _ =>
      pr 0
theorem st_apply_26 {Γ : Gm} {h : CH} {d : Nat} (hT : HT h) (o : Ok Γ "LazyForgeModel" cX11_apply 10 (Option.none : Option Jvm.ClassFile.FieldType) (d + 3))   (l1 : Int) (l3 : Int) (k0 : Int) (hl1 : R64 l1) (hl3 : R32 l3) (hk0 : rg .boolean k0) : Sx Γ (fun t => (h, t)) (fun a s => mt Γ = (0, a, ((h, s) : Wd))) 26 [(0, vA (mg Γ) 21), (1, vJ l1), (3, vI l3)] [vI k0] (t_apply_26 l1 l3 k0) := by
  unfold t_apply_26
  refine r_istore o dX11_apply_26 rfl ⟨(Nat.ne_of_beq_eq_false rfl), (fun _ => (vA_cat (mg Γ) 21)), ⟨(Nat.ne_of_beq_eq_false rfl), (fun e => absurd e (Nat.ne_of_beq_eq_false rfl)), ⟨(Nat.ne_of_beq_eq_false rfl), (fun _ => rfl), trivial⟩⟩⟩ ?_
  refine s_iload o dX11_apply_28 0 rfl ?_
  refine s_if_ne (tgt := 48) o dX11_apply_30 (by decide) (rZ hk0) ?_ ?_
  · refine r_to [(0, vA (mg Γ) 21), (1, vJ l1), (3, vI l3), (4, vI k0)] [1, 2, 3, 0] rfl ?_
    exact st_apply_48 hT o l1 l3 k0 hl1 hl3 hk0
  · refine s_lload_n o dX11_apply_33 rfl 2 rfl ?_
    refine s_cs (d := d + 2) (As := [vJ l1]) (st := []) o (st_kindOf (mg Γ) (d + 2) h l1 hl1) mw_X11_kindOf rfl (Or.inl (lw_all_tbl q3254)) (lw_all_tbl q3255) wt_0 rfl dX11_apply_34 rfl (rs := fun r => [vI r]) (fun _ => rfl) (fun v1 hv1 => ?_)
    refine s_iconst o dX11_apply_37 ?_
    refine s_icmp_eq (tgt := 48) o dX11_apply_38 (by decide) (hv1 _ rfl) (r32 rfl) ?_ ?_
    · refine r_to [(0, vA (mg Γ) 21), (1, vJ l1), (3, vI l3), (4, vI k0)] [1, 2, 3, 0] rfl ?_
      exact st_apply_48 hT o l1 l3 k0 hl1 hl3 hk0
    · refine s_aload_n o dX11_apply_41 rfl 1 rfl ?_
      refine s_iconst o dX11_apply_42 ?_
      refine s_iconst o dX11_apply_43 ?_
      refine s_cv (d := d + 2) (C := "LazyForgeModel") (As := [vI 2, vI 4]) (st := []) o (st_ends (mg Γ) (d + 2) h hT 2 4 (r32 rfl) (r32 rfl)) mw_X11_ends rfl (Or.inl (lw_all_tbl q3238)) (lw_all_tbl qs126) (lw_all_tbl q3240) (fun t => rc_t o hT t) wt_0 rfl dX11_apply_44 rfl (rs := fun _ => []) (fun _ => rfl) (fun _ _ => ?_)
      exact s_vret o rfl dX11_apply_47 (fun _ hh => hh)
noncomputable def t_apply_25  (l1 : Int) (l3 : Int) : Mo TS Int :=
  t_apply_26 l1 l3 0
theorem st_apply_25 {Γ : Gm} {h : CH} {d : Nat} (hT : HT h) (o : Ok Γ "LazyForgeModel" cX11_apply 10 (Option.none : Option Jvm.ClassFile.FieldType) (d + 3))   (l1 : Int) (l3 : Int) (hl1 : R64 l1) (hl3 : R32 l3) : Sx Γ (fun t => (h, t)) (fun a s => mt Γ = (0, a, ((h, s) : Wd))) 25 [(0, vA (mg Γ) 21), (1, vJ l1), (3, vI l3)] [] (t_apply_25 l1 l3) := by
  unfold t_apply_25
  refine s_iconst o dX11_apply_25 ?_
  exact st_apply_26 hT o l1 l3 0 hl1 hl3 (Or.inl rfl)
noncomputable def t_apply (l1 : Int) (l3 : Int) : Mo TS Int :=
  bnd (t_kindOf l1) fun v1 =>
  if ¬ v1 = 3 then
    t_apply_25 l1 l3
  else
    bnd (t_of l1) fun v2 =>
    bnd (rd 92 4100 v2) fun v3 =>
    if ¬ v3 = 1 then
      t_apply_25 l1 l3
    else
      t_apply_26 l1 l3 1
theorem st_apply (g : gC) (d : Nat) (h : CH) (hT : HT h) (l1 : Int) (l3 : Int) (hl1 : R64 l1) (hl3 : R32 l3) : SF g yX11_apply (Cond.code yX11_apply cX11_apply 10 (Option.none : Option Jvm.ClassFile.FieldType)) (Option.none : Option Jvm.ClassFile.FieldType) (d + 3) [vA g 21, vJ l1, vI l3] (fun t => (h, t)) (t_apply l1 l3) := by
  refine SF.of (lv := [(0, vA g 21), (1, vJ l1), (3, vI l3)]) (by decide) (wt_A (wt_J (wt_I wt_0))) rfl (by simp only [la_A, la_I, la_J, la_0]) (fun Γ hg hnm o => ?_)
  subst hg
  have o : Ok Γ "LazyForgeModel" cX11_apply 10 (Option.none : Option Jvm.ClassFile.FieldType) (d + 3) := o
  unfold t_apply
  refine s_lload_n o dX11_apply_0 rfl 1 rfl ?_
  refine s_cs (d := d + 2) (As := [vJ l1]) (st := []) o (st_kindOf (mg Γ) (d + 2) h l1 hl1) mw_X11_kindOf rfl (Or.inl (lw_all_tbl q3254)) (lw_all_tbl q3255) wt_0 rfl dX11_apply_1 rfl (rs := fun r => [vI r]) (fun _ => rfl) (fun v1 hv1 => ?_)
  refine s_iconst o dX11_apply_4 ?_
  refine s_icmp_ne (tgt := 25) o dX11_apply_5 (by decide) (hv1 _ rfl) (r32 rfl) ?_ ?_
  · exact st_apply_25 hT o l1 l3 hl1 hl3
  · refine s_aload_n o dX11_apply_8 rfl 0 rfl ?_
    refine s_tga (x := 81) o hT tf_cellSorts ta_cellSorts (lw_all_tbl q2596) dX11_apply_9 ?_
    refine s_lload_n o dX11_apply_12 rfl 1 rfl ?_
    refine s_cs (d := d + 2) (As := [vJ l1]) (st := [vA (mg Γ) 81]) o (st_of (mg Γ) (d + 2) h l1 hl1) mw_X11_of rfl (Or.inl (lw_all_tbl q3261)) (lw_all_tbl q3262) (wt_A wt_0) rfl dX11_apply_13 rfl (rs := fun r => [vI r, vA (mg Γ) 81]) (fun _ => rfl) (fun v2 hv2 => ?_)
    refine r_tiald o hT tr_cellSorts (hv2 _ rfl) dX11_apply_16 (fun v3 hv3 => ?_)
    refine s_iconst o dX11_apply_17 ?_
    refine s_icmp_ne (tgt := 25) o dX11_apply_18 (by decide) hv3 (r32 rfl) ?_ ?_
    · exact st_apply_25 hT o l1 l3 hl1 hl3
    · refine s_iconst o dX11_apply_21 ?_
      refine s_goto (tgt := 26) o dX11_apply_22 (by decide) ?_
      exact st_apply_26 hT o l1 l3 1 hl1 hl3 (Or.inr rfl)
theorem dX11_atom_2_0 : decode cX11_atom_2 0 = .ok (.aload_n 0, 1) := by decide +kernel
theorem dX11_atom_2_1 : decode cX11_atom_2 1 = .ok (.getfield 119, 3) := by decide +kernel
theorem dX11_atom_2_4 : decode cX11_atom_2 4 = .ok (.iload_n 1, 1) := by decide +kernel
theorem dX11_atom_2_5 : decode cX11_atom_2 5 = .ok (.iaload, 1) := by decide +kernel
theorem dX11_atom_2_6 : decode cX11_atom_2 6 = .ok (.tableswitch 91 9 13 #[73, 60, 91, 47, 34], 34) := by decide +kernel
theorem dX11_atom_2_40 : decode cX11_atom_2 40 = .ok (.aload_n 0, 1) := by decide +kernel
theorem dX11_atom_2_41 : decode cX11_atom_2 41 = .ok (.aload_n 0, 1) := by decide +kernel
theorem dX11_atom_2_42 : decode cX11_atom_2 42 = .ok (.getfield 122, 3) := by decide +kernel
theorem dX11_atom_2_45 : decode cX11_atom_2 45 = .ok (.iload_n 1, 1) := by decide +kernel
theorem dX11_atom_2_46 : decode cX11_atom_2 46 = .ok (.iaload, 1) := by decide +kernel
theorem dX11_atom_2_47 : decode cX11_atom_2 47 = .ok (.invokevirtual 792, 3) := by decide +kernel
theorem dX11_atom_2_50 : decode cX11_atom_2 50 = .ok (.goto 63, 3) := by decide +kernel
theorem dX11_atom_2_53 : decode cX11_atom_2 53 = .ok (.aload_n 0, 1) := by decide +kernel
theorem dX11_atom_2_54 : decode cX11_atom_2 54 = .ok (.aload_n 0, 1) := by decide +kernel
theorem dX11_atom_2_55 : decode cX11_atom_2 55 = .ok (.getfield 122, 3) := by decide +kernel
theorem dX11_atom_2_58 : decode cX11_atom_2 58 = .ok (.iload_n 1, 1) := by decide +kernel
theorem dX11_atom_2_59 : decode cX11_atom_2 59 = .ok (.iaload, 1) := by decide +kernel
theorem dX11_atom_2_60 : decode cX11_atom_2 60 = .ok (.invokevirtual 801, 3) := by decide +kernel
theorem dX11_atom_2_63 : decode cX11_atom_2 63 = .ok (.goto 50, 3) := by decide +kernel
theorem dX11_atom_2_66 : decode cX11_atom_2 66 = .ok (.aload_n 0, 1) := by decide +kernel
theorem dX11_atom_2_67 : decode cX11_atom_2 67 = .ok (.aload_n 0, 1) := by decide +kernel
theorem dX11_atom_2_68 : decode cX11_atom_2 68 = .ok (.getfield 122, 3) := by decide +kernel
theorem dX11_atom_2_71 : decode cX11_atom_2 71 = .ok (.iload_n 1, 1) := by decide +kernel
theorem dX11_atom_2_72 : decode cX11_atom_2 72 = .ok (.iaload, 1) := by decide +kernel
theorem dX11_atom_2_73 : decode cX11_atom_2 73 = .ok (.invokevirtual 786, 3) := by decide +kernel
theorem dX11_atom_2_76 : decode cX11_atom_2 76 = .ok (.goto 37, 3) := by decide +kernel
theorem dX11_atom_2_79 : decode cX11_atom_2 79 = .ok (.aload_n 0, 1) := by decide +kernel
theorem dX11_atom_2_80 : decode cX11_atom_2 80 = .ok (.aload_n 0, 1) := by decide +kernel
theorem dX11_atom_2_81 : decode cX11_atom_2 81 = .ok (.getfield 59, 3) := by decide +kernel
theorem dX11_atom_2_84 : decode cX11_atom_2 84 = .ok (.aload_n 0, 1) := by decide +kernel
theorem dX11_atom_2_85 : decode cX11_atom_2 85 = .ok (.getfield 122, 3) := by decide +kernel
theorem dX11_atom_2_88 : decode cX11_atom_2 88 = .ok (.iload_n 1, 1) := by decide +kernel
theorem dX11_atom_2_89 : decode cX11_atom_2 89 = .ok (.iaload, 1) := by decide +kernel
theorem dX11_atom_2_90 : decode cX11_atom_2 90 = .ok (.laload, 1) := by decide +kernel
theorem dX11_atom_2_91 : decode cX11_atom_2 91 = .ok (.invokevirtual 789, 3) := by decide +kernel
theorem dX11_atom_2_94 : decode cX11_atom_2 94 = .ok (.goto 19, 3) := by decide +kernel
theorem dX11_atom_2_97 : decode cX11_atom_2 97 = .ok (.aload_n 0, 1) := by decide +kernel
theorem dX11_atom_2_98 : decode cX11_atom_2 98 = .ok (.bipush 102, 2) := by decide +kernel
theorem dX11_atom_2_100 : decode cX11_atom_2 100 = .ok (.bipush 97, 2) := by decide +kernel
theorem dX11_atom_2_102 : decode cX11_atom_2 102 = .ok (.bipush 105, 2) := by decide +kernel
theorem dX11_atom_2_104 : decode cX11_atom_2 104 = .ok (.bipush 108, 2) := by decide +kernel
theorem dX11_atom_2_106 : decode cX11_atom_2 106 = .ok (.iconst 0, 1) := by decide +kernel
theorem dX11_atom_2_107 : decode cX11_atom_2 107 = .ok (.invokestatic 257, 3) := by decide +kernel
theorem dX11_atom_2_110 : decode cX11_atom_2 110 = .ok (.invokevirtual 789, 3) := by decide +kernel
theorem dX11_atom_2_113 : decode cX11_atom_2 113 = .ok (.return_, 1) := by decide +kernel
theorem mw_X11_atom_2 : MW yX11_atom_2 (Cond.code yX11_atom_2 cX11_atom_2 2 (Option.none : Option Jvm.ClassFile.FieldType)) cX11_atom_2 2 (Option.none : Option Jvm.ClassFile.FieldType) 1 := ⟨rfl, ⟨(lw_all_tbl q3399), rfl, (lw_all_tbl q173)⟩, rfl, ⟨by decide, by decide⟩, by decide +kernel⟩
noncomputable def t_atom_2 (l1 : Int) : Mo TS Int :=
  bnd (rd 64 7000 l1) fun v1 =>
  if v1 = 9 then
    bnd (rd 65 7000 l1) fun v3 =>
    bnd (rd 32 30 v3) fun v4 =>
    bnd (t_signs v4) fun _ =>
    pr 0
  else
    if v1 = 10 then
      bnd (rd 65 7000 l1) fun v6 =>
      bnd (t_digits v6) fun _ =>
      pr 0
    else
      if v1 = 12 then
        bnd (rd 65 7000 l1) fun v8 =>
        bnd (t_functionName v8) fun _ =>
        pr 0
      else
        if v1 = 13 then
          bnd (rd 65 7000 l1) fun v10 =>
          bnd (t_variable v10) fun _ =>
          pr 0
        else
          bnd (t_pack 102 97 105 108 0) fun v11 =>
          bnd (t_signs v11) fun _ =>
          pr 0
theorem st_atom_2 (g : gC) (d : Nat) (h : CH) (hT : HT h) (l1 : Int) (hl1 : R32 l1) : SF g yX11_atom_2 (Cond.code yX11_atom_2 cX11_atom_2 2 (Option.none : Option Jvm.ClassFile.FieldType)) (Option.none : Option Jvm.ClassFile.FieldType) (d + 3) [vA g 21, vI l1] (fun t => (h, t)) (t_atom_2 l1) := by
  refine SF.of (lv := [(0, vA g 21), (1, vI l1)]) (by decide) (wt_A (wt_I wt_0)) rfl (by simp only [la_A, la_I, la_J, la_0]) (fun Γ hg hnm o => ?_)
  subst hg
  have o : Ok Γ "LazyForgeModel" cX11_atom_2 2 (Option.none : Option Jvm.ClassFile.FieldType) (d + 3) := o
  unfold t_atom_2
  refine s_aload_n o dX11_atom_2_0 rfl 0 rfl ?_
  refine s_tga (x := 58) o hT tf_liftKinds ta_liftKinds (lw_all_tbl q2568) dX11_atom_2_1 ?_
  refine s_iload_n o dX11_atom_2_4 rfl 1 rfl ?_
  refine r_tiald o hT tr_liftKinds hl1 dX11_atom_2_5 (fun v1 hv1 => ?_)
  refine s_case (P := True) (fun e1 => ?_) (fun e1 => ?_)
  · refine s_tabE o e1 dX11_atom_2_6 (r32 rfl) rfl rfl (tgt := 79) (by decide) ?_
    refine s_aload_n o dX11_atom_2_79 rfl 0 rfl ?_
    refine s_aload_n o dX11_atom_2_80 rfl 0 rfl ?_
    refine s_tga (x := 38) o hT tf_constructorNames ta_constructorNames (lw_all_tbl q2536) dX11_atom_2_81 ?_
    refine s_aload_n o dX11_atom_2_84 rfl 0 rfl ?_
    refine s_tga (x := 59) o hT tf_liftValues ta_liftValues (lw_all_tbl q2569) dX11_atom_2_85 ?_
    refine s_iload_n o dX11_atom_2_88 rfl 1 rfl ?_
    refine r_tiald o hT tr_liftValues hl1 dX11_atom_2_89 (fun v3 hv3 => ?_)
    refine r_tlald o hT tr_constructorNames hv3 dX11_atom_2_90 (fun v4 hv4 => ?_)
    refine s_cv (d := d + 2) (C := "LazyForgeModel") (As := [vJ v4]) (st := []) o (st_signs (mg Γ) (d + 1) h hT v4 hv4) mw_X11_signs rfl (Or.inl (lw_all_tbl q3372)) (lw_all_tbl qs151) (lw_all_tbl q3374) (fun t => rc_t o hT t) wt_0 rfl dX11_atom_2_91 rfl (rs := fun _ => []) (fun _ => rfl) (fun _ _ => ?_)
    refine s_goto (tgt := 113) o dX11_atom_2_94 (by decide) ?_
    exact s_vret o rfl dX11_atom_2_113 (fun _ hh => hh)
  · refine s_case (P := True) (fun e4 => ?_) (fun e4 => ?_)
    · refine s_tabE o e4 dX11_atom_2_6 (r32 rfl) rfl rfl (tgt := 66) (by decide) ?_
      refine s_aload_n o dX11_atom_2_66 rfl 0 rfl ?_
      refine s_aload_n o dX11_atom_2_67 rfl 0 rfl ?_
      refine s_tga (x := 59) o hT tf_liftValues ta_liftValues (lw_all_tbl q2569) dX11_atom_2_68 ?_
      refine s_iload_n o dX11_atom_2_71 rfl 1 rfl ?_
      refine r_tiald o hT tr_liftValues hl1 dX11_atom_2_72 (fun v6 hv6 => ?_)
      refine s_cv (d := d + 2) (C := "LazyForgeModel") (As := [vI v6]) (st := []) o (st_digits (mg Γ) (d + 1) h hT v6 hv6) mw_X11_digits rfl (Or.inl (lw_all_tbl q3380)) (lw_all_tbl qs153) (lw_all_tbl q3382) (fun t => rc_t o hT t) wt_0 rfl dX11_atom_2_73 rfl (rs := fun _ => []) (fun _ => rfl) (fun _ _ => ?_)
      refine s_goto (tgt := 113) o dX11_atom_2_76 (by decide) ?_
      exact s_vret o rfl dX11_atom_2_113 (fun _ hh => hh)
    · refine s_case (P := True) (fun e6 => ?_) (fun e6 => ?_)
      · refine s_tabE o e6 dX11_atom_2_6 (r32 rfl) rfl rfl (tgt := 53) (by decide) ?_
        refine s_aload_n o dX11_atom_2_53 rfl 0 rfl ?_
        refine s_aload_n o dX11_atom_2_54 rfl 0 rfl ?_
        refine s_tga (x := 59) o hT tf_liftValues ta_liftValues (lw_all_tbl q2569) dX11_atom_2_55 ?_
        refine s_iload_n o dX11_atom_2_58 rfl 1 rfl ?_
        refine r_tiald o hT tr_liftValues hl1 dX11_atom_2_59 (fun v8 hv8 => ?_)
        refine s_cv (d := d + 2) (C := "LazyForgeModel") (As := [vI v8]) (st := []) o (st_functionName (mg Γ) d h hT v8 hv8) mw_X11_functionName rfl (Or.inl (lw_all_tbl q3384)) (lw_all_tbl qs154) (lw_all_tbl q3386) (fun t => rc_t o hT t) wt_0 rfl dX11_atom_2_60 rfl (rs := fun _ => []) (fun _ => rfl) (fun _ _ => ?_)
        refine s_goto (tgt := 113) o dX11_atom_2_63 (by decide) ?_
        exact s_vret o rfl dX11_atom_2_113 (fun _ hh => hh)
      · refine s_case (P := True) (fun e8 => ?_) (fun e8 => ?_)
        · refine s_tabE o e8 dX11_atom_2_6 (r32 rfl) rfl rfl (tgt := 40) (by decide) ?_
          refine s_aload_n o dX11_atom_2_40 rfl 0 rfl ?_
          refine s_aload_n o dX11_atom_2_41 rfl 0 rfl ?_
          refine s_tga (x := 59) o hT tf_liftValues ta_liftValues (lw_all_tbl q2569) dX11_atom_2_42 ?_
          refine s_iload_n o dX11_atom_2_45 rfl 1 rfl ?_
          refine r_tiald o hT tr_liftValues hl1 dX11_atom_2_46 (fun v10 hv10 => ?_)
          refine s_cv (d := d + 2) (C := "LazyForgeModel") (As := [vI v10]) (st := []) o (st_variable (mg Γ) d h hT v10 hv10) mw_X11_variable rfl (Or.inl (lw_all_tbl q3388)) (lw_all_tbl qs155) (lw_all_tbl q3390) (fun t => rc_t o hT t) wt_0 rfl dX11_atom_2_47 rfl (rs := fun _ => []) (fun _ => rfl) (fun _ _ => ?_)
          refine s_goto (tgt := 113) o dX11_atom_2_50 (by decide) ?_
          exact s_vret o rfl dX11_atom_2_113 (fun _ hh => hh)
        · refine s_split (x := v1) (v := 11) (fun e11 => ?_) (fun e11 => ?_)
          · refine s_tabE o e11 dX11_atom_2_6 (r32 rfl) rfl rfl (tgt := 97) (by decide) ?_
            refine s_aload_n o dX11_atom_2_97 rfl 0 rfl ?_
            refine s_bipush o dX11_atom_2_98 rfl ?_
            refine s_bipush o dX11_atom_2_100 rfl ?_
            refine s_bipush o dX11_atom_2_102 rfl ?_
            refine s_bipush o dX11_atom_2_104 rfl ?_
            refine s_iconst o dX11_atom_2_106 ?_
            refine s_cs (d := d + 2) (As := [vI 102, vI 97, vI 105, vI 108, vI 0]) (st := [vA (mg Γ) 21]) o (st_pack (mg Γ) (d + 2) h 102 97 105 108 0 (r32 rfl) (r32 rfl) (r32 rfl) (r32 rfl) (r32 rfl)) mw_X11_pack rfl (Or.inl (lw_all_tbl q2929)) (lw_all_tbl q2930) (wt_A wt_0) rfl dX11_atom_2_107 rfl (rs := fun r => [vJ r, vA (mg Γ) 21]) (fun _ => rfl) (fun v11 hv11 => ?_)
            refine s_cv (d := d + 2) (C := "LazyForgeModel") (As := [vJ v11]) (st := []) o (st_signs (mg Γ) (d + 1) h hT v11 (hv11 _ rfl)) mw_X11_signs rfl (Or.inl (lw_all_tbl q3372)) (lw_all_tbl qs151) (lw_all_tbl q3374) (fun t => rc_t o hT t) wt_0 rfl dX11_atom_2_110 rfl (rs := fun _ => []) (fun _ => rfl) (fun _ _ => ?_)
            exact s_vret o rfl dX11_atom_2_113 (fun _ hh => hh)
          · refine s_tabOut o dX11_atom_2_6 hv1 (by omega) (tgt := 97) (by decide) ?_
            refine s_aload_n o dX11_atom_2_97 rfl 0 rfl ?_
            refine s_bipush o dX11_atom_2_98 rfl ?_
            refine s_bipush o dX11_atom_2_100 rfl ?_
            refine s_bipush o dX11_atom_2_102 rfl ?_
            refine s_bipush o dX11_atom_2_104 rfl ?_
            refine s_iconst o dX11_atom_2_106 ?_
            refine s_cs (d := d + 2) (As := [vI 102, vI 97, vI 105, vI 108, vI 0]) (st := [vA (mg Γ) 21]) o (st_pack (mg Γ) (d + 2) h 102 97 105 108 0 (r32 rfl) (r32 rfl) (r32 rfl) (r32 rfl) (r32 rfl)) mw_X11_pack rfl (Or.inl (lw_all_tbl q2929)) (lw_all_tbl q2930) (wt_A wt_0) rfl dX11_atom_2_107 rfl (rs := fun r => [vJ r, vA (mg Γ) 21]) (fun _ => rfl) (fun v13 hv13 => ?_)
            refine s_cv (d := d + 2) (C := "LazyForgeModel") (As := [vJ v13]) (st := []) o (st_signs (mg Γ) (d + 1) h hT v13 (hv13 _ rfl)) mw_X11_signs rfl (Or.inl (lw_all_tbl q3372)) (lw_all_tbl qs151) (lw_all_tbl q3374) (fun t => rc_t o hT t) wt_0 rfl dX11_atom_2_110 rfl (rs := fun _ => []) (fun _ => rfl) (fun _ _ => ?_)
            exact s_vret o rfl dX11_atom_2_113 (fun _ hh => hh)
theorem dX11_pattern_0 : decode cX11_pattern 0 = .ok (.aload_n 0, 1) := by decide +kernel
theorem dX11_pattern_1 : decode cX11_pattern 1 = .ok (.getfield 150, 3) := by decide +kernel
theorem dX11_pattern_4 : decode cX11_pattern 4 = .ok (.iload_n 1, 1) := by decide +kernel
theorem dX11_pattern_5 : decode cX11_pattern 5 = .ok (.iaload, 1) := by decide +kernel
theorem dX11_pattern_6 : decode cX11_pattern 6 = .ok (.iconst 2, 1) := by decide +kernel
theorem dX11_pattern_7 : decode cX11_pattern 7 = .ok (.if_icmp .ne 12, 3) := by decide +kernel
theorem dX11_pattern_10 : decode cX11_pattern 10 = .ok (.aload_n 0, 1) := by decide +kernel
theorem dX11_pattern_11 : decode cX11_pattern 11 = .ok (.bipush 95, 2) := by decide +kernel
theorem dX11_pattern_13 : decode cX11_pattern 13 = .ok (.invokevirtual 783, 3) := by decide +kernel
theorem dX11_pattern_16 : decode cX11_pattern 16 = .ok (.goto 41, 3) := by decide +kernel
theorem dX11_pattern_19 : decode cX11_pattern 19 = .ok (.aload_n 0, 1) := by decide +kernel
theorem dX11_pattern_20 : decode cX11_pattern 20 = .ok (.getfield 150, 3) := by decide +kernel
theorem dX11_pattern_23 : decode cX11_pattern 23 = .ok (.iload_n 1, 1) := by decide +kernel
theorem dX11_pattern_24 : decode cX11_pattern 24 = .ok (.iaload, 1) := by decide +kernel
theorem dX11_pattern_25 : decode cX11_pattern 25 = .ok (.iconst 1, 1) := by decide +kernel
theorem dX11_pattern_26 : decode cX11_pattern 26 = .ok (.if_icmp .ne 16, 3) := by decide +kernel
theorem dX11_pattern_29 : decode cX11_pattern 29 = .ok (.aload_n 0, 1) := by decide +kernel
theorem dX11_pattern_30 : decode cX11_pattern 30 = .ok (.aload_n 0, 1) := by decide +kernel
theorem dX11_pattern_31 : decode cX11_pattern 31 = .ok (.getfield 153, 3) := by decide +kernel
theorem dX11_pattern_34 : decode cX11_pattern 34 = .ok (.iload_n 1, 1) := by decide +kernel
theorem dX11_pattern_35 : decode cX11_pattern 35 = .ok (.iaload, 1) := by decide +kernel
theorem dX11_pattern_36 : decode cX11_pattern 36 = .ok (.invokevirtual 786, 3) := by decide +kernel
theorem dX11_pattern_39 : decode cX11_pattern 39 = .ok (.goto 18, 3) := by decide +kernel
theorem dX11_pattern_42 : decode cX11_pattern 42 = .ok (.aload_n 0, 1) := by decide +kernel
theorem dX11_pattern_43 : decode cX11_pattern 43 = .ok (.aload_n 0, 1) := by decide +kernel
theorem dX11_pattern_44 : decode cX11_pattern 44 = .ok (.getfield 59, 3) := by decide +kernel
theorem dX11_pattern_47 : decode cX11_pattern 47 = .ok (.aload_n 0, 1) := by decide +kernel
theorem dX11_pattern_48 : decode cX11_pattern 48 = .ok (.getfield 153, 3) := by decide +kernel
theorem dX11_pattern_51 : decode cX11_pattern 51 = .ok (.iload_n 1, 1) := by decide +kernel
theorem dX11_pattern_52 : decode cX11_pattern 52 = .ok (.iaload, 1) := by decide +kernel
theorem dX11_pattern_53 : decode cX11_pattern 53 = .ok (.laload, 1) := by decide +kernel
theorem dX11_pattern_54 : decode cX11_pattern 54 = .ok (.invokevirtual 789, 3) := by decide +kernel
theorem dX11_pattern_57 : decode cX11_pattern 57 = .ok (.iconst 0, 1) := by decide +kernel
theorem dX11_pattern_58 : decode cX11_pattern 58 = .ok (.istore_n 2, 1) := by decide +kernel
theorem dX11_pattern_59 : decode cX11_pattern 59 = .ok (.iload_n 2, 1) := by decide +kernel
theorem dX11_pattern_60 : decode cX11_pattern 60 = .ok (.aload_n 0, 1) := by decide +kernel
theorem dX11_pattern_61 : decode cX11_pattern 61 = .ok (.getfield 159, 3) := by decide +kernel
theorem dX11_pattern_64 : decode cX11_pattern 64 = .ok (.iload_n 1, 1) := by decide +kernel
theorem dX11_pattern_65 : decode cX11_pattern 65 = .ok (.iaload, 1) := by decide +kernel
theorem dX11_pattern_66 : decode cX11_pattern 66 = .ok (.if_icmp .ge 27, 3) := by decide +kernel
theorem dX11_pattern_69 : decode cX11_pattern 69 = .ok (.aload_n 0, 1) := by decide +kernel
theorem dX11_pattern_70 : decode cX11_pattern 70 = .ok (.bipush 32, 2) := by decide +kernel
theorem dX11_pattern_72 : decode cX11_pattern 72 = .ok (.invokevirtual 783, 3) := by decide +kernel
theorem dX11_pattern_75 : decode cX11_pattern 75 = .ok (.aload_n 0, 1) := by decide +kernel
theorem dX11_pattern_76 : decode cX11_pattern 76 = .ok (.aload_n 0, 1) := by decide +kernel
theorem dX11_pattern_77 : decode cX11_pattern 77 = .ok (.getfield 156, 3) := by decide +kernel
theorem dX11_pattern_80 : decode cX11_pattern 80 = .ok (.iload_n 1, 1) := by decide +kernel
theorem dX11_pattern_81 : decode cX11_pattern 81 = .ok (.iaload, 1) := by decide +kernel
theorem dX11_pattern_82 : decode cX11_pattern 82 = .ok (.iload_n 2, 1) := by decide +kernel
theorem dX11_pattern_83 : decode cX11_pattern 83 = .ok (.iadd, 1) := by decide +kernel
theorem dX11_pattern_84 : decode cX11_pattern 84 = .ok (.invokevirtual 792, 3) := by decide +kernel
theorem dX11_pattern_87 : decode cX11_pattern 87 = .ok (.iinc 2 1, 3) := by decide +kernel
theorem dX11_pattern_90 : decode cX11_pattern 90 = .ok (.goto (-31), 3) := by decide +kernel
theorem dX11_pattern_93 : decode cX11_pattern 93 = .ok (.aload_n 0, 1) := by decide +kernel
theorem dX11_pattern_94 : decode cX11_pattern 94 = .ok (.bipush 32, 2) := by decide +kernel
theorem dX11_pattern_96 : decode cX11_pattern 96 = .ok (.bipush 45, 2) := by decide +kernel
theorem dX11_pattern_98 : decode cX11_pattern 98 = .ok (.bipush 62, 2) := by decide +kernel
theorem dX11_pattern_100 : decode cX11_pattern 100 = .ok (.bipush 32, 2) := by decide +kernel
theorem dX11_pattern_102 : decode cX11_pattern 102 = .ok (.iconst 0, 1) := by decide +kernel
theorem dX11_pattern_103 : decode cX11_pattern 103 = .ok (.invokestatic 257, 3) := by decide +kernel
theorem dX11_pattern_106 : decode cX11_pattern 106 = .ok (.invokevirtual 789, 3) := by decide +kernel
theorem dX11_pattern_109 : decode cX11_pattern 109 = .ok (.return_, 1) := by decide +kernel
theorem mw_X11_pattern : MW yX11_pattern (Cond.code yX11_pattern cX11_pattern 3 (Option.none : Option Jvm.ClassFile.FieldType)) cX11_pattern 3 (Option.none : Option Jvm.ClassFile.FieldType) 1 := ⟨rfl, ⟨(lw_all_tbl q3407), rfl, (lw_all_tbl q173)⟩, rfl, ⟨by decide, by decide⟩, by decide +kernel⟩
abbrev okt_pattern_59 (x : Int × Int) : Prop := R32 x.1 ∧ R32 x.2
abbrev lvt_pattern_59 (Γ : Gm) (x : Int × Int) : List (Nat × Value) := [(0, vA (mg Γ) 21), (1, vI x.1), (2, vI x.2)]
noncomputable def t_pattern_59b {A : Type} (k_93 : Mo TS A) (l1 : Int) (l2 : Int) : Mo TS ((Int × Int) ⊕ A) :=
  bnd (rd 78 14000 l1) fun v1 =>
  if v1 ≤ l2 then
    lo k_93
  else
    bnd (t_letters 32) fun _ =>
    bnd (rd 77 14000 l1) fun v2 =>
    bnd (t_variable (w32 (v2 + l2))) fun _ =>
    pr (.inl (l1, (w32 (l2 + 1))))
theorem st_pattern_59b {Γ : Gm} {h : CH} {d : Nat} (hT : HT h) (o : Ok Γ "LazyForgeModel" cX11_pattern 3 (Option.none : Option Jvm.ClassFile.FieldType) (d + 3)) {A : Type} {K : A → TS → Prop} (k_93 : Mo TS A) (hk_93 : Sx Γ (fun t => (h, t)) K 93 [(0, vA (mg Γ) 21)] [] (k_93)) (l1 : Int) (l2 : Int) (hl1 : R32 l1) (hl2 : R32 l2) : Sx Γ (fun t => (h, t)) (KL Γ (fun t => (h, t)) okt_pattern_59 K 59 (lvt_pattern_59 Γ) []) 59 [(0, vA (mg Γ) 21), (1, vI l1), (2, vI l2)] [] (t_pattern_59b k_93 l1 l2) := by
  unfold t_pattern_59b
  refine s_iload_n o dX11_pattern_59 rfl 2 rfl ?_
  refine s_aload_n o dX11_pattern_60 rfl 0 rfl ?_
  refine s_tga (x := 71) o hT tf_branchCounts ta_branchCounts (lw_all_tbl q2582) dX11_pattern_61 ?_
  refine s_iload_n o dX11_pattern_64 rfl 1 rfl ?_
  refine r_tiald o hT tr_branchCounts hl1 dX11_pattern_65 (fun v1 hv1 => ?_)
  refine s_icmp_ge (tgt := 93) o dX11_pattern_66 (by decide) hl2 hv1 ?_ ?_
  · refine r_to [(0, vA (mg Γ) 21)] [0] rfl ?_
    exact s_lo hk_93
  · refine s_aload_n o dX11_pattern_69 rfl 0 rfl ?_
    refine s_bipush o dX11_pattern_70 rfl ?_
    refine s_cv (d := d + 2) (C := "LazyForgeModel") (As := [vI 32]) (st := []) o (st_letters (mg Γ) (d + 2) h hT 32 (r32 rfl)) mw_X11_letters rfl (Or.inl (lw_all_tbl q3376)) (lw_all_tbl qs152) (lw_all_tbl q3378) (fun t => rc_t o hT t) wt_0 rfl dX11_pattern_72 rfl (rs := fun _ => []) (fun _ => rfl) (fun _ _ => ?_)
    refine s_aload_n o dX11_pattern_75 rfl 0 rfl ?_
    refine s_aload_n o dX11_pattern_76 rfl 0 rfl ?_
    refine s_tga (x := 70) o hT tf_branchVariables ta_branchVariables (lw_all_tbl q2581) dX11_pattern_77 ?_
    refine s_iload_n o dX11_pattern_80 rfl 1 rfl ?_
    refine r_tiald o hT tr_branchVariables hl1 dX11_pattern_81 (fun v2 hv2 => ?_)
    refine s_iload_n o dX11_pattern_82 rfl 2 rfl ?_
    refine s_iadd o dX11_pattern_83 ?_
    refine s_cv (d := d + 2) (C := "LazyForgeModel") (As := [vI (w32 (v2 + l2))]) (st := []) o (st_variable (mg Γ) d h hT (w32 (v2 + l2)) (w32_R _)) mw_X11_variable rfl (Or.inl (lw_all_tbl q3388)) (lw_all_tbl qs155) (lw_all_tbl q3390) (fun t => rc_t o hT t) wt_0 rfl dX11_pattern_84 rfl (rs := fun _ => []) (fun _ => rfl) (fun _ _ => ?_)
    refine r_iinc (j := 2) o dX11_pattern_87 rfl rfl [(0, vA (mg Γ) 21), (1, vI l1)] [0, 1] rfl ⟨(Nat.ne_of_beq_eq_false rfl), (fun _ => (vA_cat (mg Γ) 21)), ⟨(Nat.ne_of_beq_eq_false rfl), (fun _ => rfl), trivial⟩⟩ ?_
    refine s_goto (tgt := 59) o dX11_pattern_90 (by decide) ?_
    refine r_to [(0, vA (mg Γ) 21), (1, vI l1), (2, vI (w32 (l2 + 1)))] [1, 2, 0] rfl ?_
    exact s_back (⟨hl1, (w32_R _)⟩) rfl
noncomputable def t_pattern_59 {A : Type} (k_93 : Mo TS A) (l1 : Int) (l2 : Int) : Mo TS A := Loop (fun x => t_pattern_59b k_93 x.1 x.2) (l1, l2)
theorem st_pattern_59 {Γ : Gm} {h : CH} {d : Nat} (hT : HT h) (o : Ok Γ "LazyForgeModel" cX11_pattern 3 (Option.none : Option Jvm.ClassFile.FieldType) (d + 3)) {A : Type} {K : A → TS → Prop} (k_93 : Mo TS A) (hk_93 : Sx Γ (fun t => (h, t)) K 93 [(0, vA (mg Γ) 21)] [] (k_93)) (l1 : Int) (l2 : Int) (hl1 : R32 l1) (hl2 : R32 l2) : Sx Γ (fun t => (h, t)) K 59 [(0, vA (mg Γ) 21), (1, vI l1), (2, vI l2)] [] (t_pattern_59 k_93 l1 l2) :=
  s_loop okt_pattern_59 (lvt_pattern_59 Γ) (fun x hx => st_pattern_59b hT o k_93 hk_93 x.1 x.2 hx.1 hx.2) (x := (l1, l2)) ⟨hl1, hl2⟩
noncomputable def t_pattern_57  (l1 : Int) : Mo TS Int :=
  t_pattern_59
    (bnd (t_pack 32 45 62 32 0) fun v1 =>
  bnd (t_signs v1) fun _ =>
  pr 0) l1 0
theorem st_pattern_57 {Γ : Gm} {h : CH} {d : Nat} (hT : HT h) (o : Ok Γ "LazyForgeModel" cX11_pattern 3 (Option.none : Option Jvm.ClassFile.FieldType) (d + 3))   (l1 : Int) (hl1 : R32 l1) : Sx Γ (fun t => (h, t)) (fun a s => mt Γ = (0, a, ((h, s) : Wd))) 57 [(0, vA (mg Γ) 21), (1, vI l1)] [] (t_pattern_57 l1) := by
  unfold t_pattern_57
  refine s_iconst o dX11_pattern_57 ?_
  refine r_istore_n o dX11_pattern_58 rfl rfl ⟨(Nat.ne_of_beq_eq_false rfl), (fun _ => (vA_cat (mg Γ) 21)), ⟨(Nat.ne_of_beq_eq_false rfl), (fun _ => rfl), trivial⟩⟩ ?_
  refine r_to [(0, vA (mg Γ) 21), (1, vI l1), (2, vI 0)] [1, 2, 0] rfl ?_
  refine st_pattern_59 hT o _ ?_ l1 0 hl1 (r32 rfl)
  · refine s_aload_n o dX11_pattern_93 rfl 0 rfl ?_
    refine s_bipush o dX11_pattern_94 rfl ?_
    refine s_bipush o dX11_pattern_96 rfl ?_
    refine s_bipush o dX11_pattern_98 rfl ?_
    refine s_bipush o dX11_pattern_100 rfl ?_
    refine s_iconst o dX11_pattern_102 ?_
    refine s_cs (d := d + 2) (As := [vI 32, vI 45, vI 62, vI 32, vI 0]) (st := [vA (mg Γ) 21]) o (st_pack (mg Γ) (d + 2) h 32 45 62 32 0 (r32 rfl) (r32 rfl) (r32 rfl) (r32 rfl) (r32 rfl)) mw_X11_pack rfl (Or.inl (lw_all_tbl q2929)) (lw_all_tbl q2930) (wt_A wt_0) rfl dX11_pattern_103 rfl (rs := fun r => [vJ r, vA (mg Γ) 21]) (fun _ => rfl) (fun v1 hv1 => ?_)
    refine s_cv (d := d + 2) (C := "LazyForgeModel") (As := [vJ v1]) (st := []) o (st_signs (mg Γ) (d + 1) h hT v1 (hv1 _ rfl)) mw_X11_signs rfl (Or.inl (lw_all_tbl q3372)) (lw_all_tbl qs151) (lw_all_tbl q3374) (fun t => rc_t o hT t) wt_0 rfl dX11_pattern_106 rfl (rs := fun _ => []) (fun _ => rfl) (fun _ _ => ?_)
    exact s_vret o rfl dX11_pattern_109 (fun _ hh => hh)
noncomputable def t_pattern (l1 : Int) : Mo TS Int :=
  bnd (rd 75 14000 l1) fun v1 =>
  if ¬ v1 = 2 then
    bnd (rd 75 14000 l1) fun v2 =>
    if ¬ v2 = 1 then
      bnd (rd 76 14000 l1) fun v3 =>
      bnd (rd 32 30 v3) fun v4 =>
      bnd (t_signs v4) fun _ =>
      t_pattern_57 l1
    else
      bnd (rd 76 14000 l1) fun v5 =>
      bnd (t_digits v5) fun _ =>
      t_pattern_57 l1
  else
    bnd (t_letters 95) fun _ =>
    t_pattern_57 l1
theorem st_pattern (g : gC) (d : Nat) (h : CH) (hT : HT h) (l1 : Int) (hl1 : R32 l1) : SF g yX11_pattern (Cond.code yX11_pattern cX11_pattern 3 (Option.none : Option Jvm.ClassFile.FieldType)) (Option.none : Option Jvm.ClassFile.FieldType) (d + 3) [vA g 21, vI l1] (fun t => (h, t)) (t_pattern l1) := by
  refine SF.of (lv := [(0, vA g 21), (1, vI l1)]) (by decide) (wt_A (wt_I wt_0)) rfl (by simp only [la_A, la_I, la_J, la_0]) (fun Γ hg hnm o => ?_)
  subst hg
  have o : Ok Γ "LazyForgeModel" cX11_pattern 3 (Option.none : Option Jvm.ClassFile.FieldType) (d + 3) := o
  unfold t_pattern
  refine s_aload_n o dX11_pattern_0 rfl 0 rfl ?_
  refine s_tga (x := 68) o hT tf_branchSorts ta_branchSorts (lw_all_tbl q2579) dX11_pattern_1 ?_
  refine s_iload_n o dX11_pattern_4 rfl 1 rfl ?_
  refine r_tiald o hT tr_branchSorts hl1 dX11_pattern_5 (fun v1 hv1 => ?_)
  refine s_iconst o dX11_pattern_6 ?_
  refine s_icmp_ne (tgt := 19) o dX11_pattern_7 (by decide) hv1 (r32 rfl) ?_ ?_
  · refine s_aload_n o dX11_pattern_19 rfl 0 rfl ?_
    refine s_tga (x := 68) o hT tf_branchSorts ta_branchSorts (lw_all_tbl q2579) dX11_pattern_20 ?_
    refine s_iload_n o dX11_pattern_23 rfl 1 rfl ?_
    refine r_tiald o hT tr_branchSorts hl1 dX11_pattern_24 (fun v2 hv2 => ?_)
    refine s_iconst o dX11_pattern_25 ?_
    refine s_icmp_ne (tgt := 42) o dX11_pattern_26 (by decide) hv2 (r32 rfl) ?_ ?_
    · refine s_aload_n o dX11_pattern_42 rfl 0 rfl ?_
      refine s_aload_n o dX11_pattern_43 rfl 0 rfl ?_
      refine s_tga (x := 38) o hT tf_constructorNames ta_constructorNames (lw_all_tbl q2536) dX11_pattern_44 ?_
      refine s_aload_n o dX11_pattern_47 rfl 0 rfl ?_
      refine s_tga (x := 69) o hT tf_branchValues ta_branchValues (lw_all_tbl q2580) dX11_pattern_48 ?_
      refine s_iload_n o dX11_pattern_51 rfl 1 rfl ?_
      refine r_tiald o hT tr_branchValues hl1 dX11_pattern_52 (fun v3 hv3 => ?_)
      refine r_tlald o hT tr_constructorNames hv3 dX11_pattern_53 (fun v4 hv4 => ?_)
      refine s_cv (d := d + 2) (C := "LazyForgeModel") (As := [vJ v4]) (st := []) o (st_signs (mg Γ) (d + 1) h hT v4 hv4) mw_X11_signs rfl (Or.inl (lw_all_tbl q3372)) (lw_all_tbl qs151) (lw_all_tbl q3374) (fun t => rc_t o hT t) wt_0 rfl dX11_pattern_54 rfl (rs := fun _ => []) (fun _ => rfl) (fun _ _ => ?_)
      exact st_pattern_57 hT o l1 hl1
    · refine s_aload_n o dX11_pattern_29 rfl 0 rfl ?_
      refine s_aload_n o dX11_pattern_30 rfl 0 rfl ?_
      refine s_tga (x := 69) o hT tf_branchValues ta_branchValues (lw_all_tbl q2580) dX11_pattern_31 ?_
      refine s_iload_n o dX11_pattern_34 rfl 1 rfl ?_
      refine r_tiald o hT tr_branchValues hl1 dX11_pattern_35 (fun v5 hv5 => ?_)
      refine s_cv (d := d + 2) (C := "LazyForgeModel") (As := [vI v5]) (st := []) o (st_digits (mg Γ) (d + 1) h hT v5 hv5) mw_X11_digits rfl (Or.inl (lw_all_tbl q3380)) (lw_all_tbl qs153) (lw_all_tbl q3382) (fun t => rc_t o hT t) wt_0 rfl dX11_pattern_36 rfl (rs := fun _ => []) (fun _ => rfl) (fun _ _ => ?_)
      refine s_goto (tgt := 57) o dX11_pattern_39 (by decide) ?_
      exact st_pattern_57 hT o l1 hl1
  · refine s_aload_n o dX11_pattern_10 rfl 0 rfl ?_
    refine s_bipush o dX11_pattern_11 rfl ?_
    refine s_cv (d := d + 2) (C := "LazyForgeModel") (As := [vI 95]) (st := []) o (st_letters (mg Γ) (d + 2) h hT 95 (r32 rfl)) mw_X11_letters rfl (Or.inl (lw_all_tbl q3376)) (lw_all_tbl qs152) (lw_all_tbl q3378) (fun t => rc_t o hT t) wt_0 rfl dX11_pattern_13 rfl (rs := fun _ => []) (fun _ => rfl) (fun _ _ => ?_)
    refine s_goto (tgt := 57) o dX11_pattern_16 (by decide) ?_
    exact st_pattern_57 hT o l1 hl1
