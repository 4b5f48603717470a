/-! PRINTED: the twin, methods 49 to 80 -/
set_option maxRecDepth 100000
theorem dX11_passBlanks_0 : decode cX11_passBlanks 0 = .ok (.iconst 1, 1) := by decide +kernel
theorem dX11_passBlanks_1 : decode cX11_passBlanks 1 = .ok (.istore_n 1, 1) := by decide +kernel
theorem dX11_passBlanks_2 : decode cX11_passBlanks 2 = .ok (.iload_n 1, 1) := by decide +kernel
theorem dX11_passBlanks_3 : decode cX11_passBlanks 3 = .ok (.ifCond .eq 108, 3) := by decide +kernel
theorem dX11_passBlanks_6 : decode cX11_passBlanks 6 = .ok (.aload_n 0, 1) := by decide +kernel
theorem dX11_passBlanks_7 : decode cX11_passBlanks 7 = .ok (.getfield 261, 3) := by decide +kernel
theorem dX11_passBlanks_10 : decode cX11_passBlanks 10 = .ok (.aload_n 0, 1) := by decide +kernel
theorem dX11_passBlanks_11 : decode cX11_passBlanks 11 = .ok (.getfield 254, 3) := by decide +kernel
theorem dX11_passBlanks_14 : decode cX11_passBlanks 14 = .ok (.if_icmp .ge 97, 3) := by decide +kernel
theorem dX11_passBlanks_17 : decode cX11_passBlanks 17 = .ok (.aload_n 0, 1) := by decide +kernel
theorem dX11_passBlanks_18 : decode cX11_passBlanks 18 = .ok (.aload_n 0, 1) := by decide +kernel
theorem dX11_passBlanks_19 : decode cX11_passBlanks 19 = .ok (.getfield 261, 3) := by decide +kernel
theorem dX11_passBlanks_22 : decode cX11_passBlanks 22 = .ok (.invokevirtual 264, 3) := by decide +kernel
theorem dX11_passBlanks_25 : decode cX11_passBlanks 25 = .ok (.bipush 35, 2) := by decide +kernel
theorem dX11_passBlanks_27 : decode cX11_passBlanks 27 = .ok (.if_icmp .ne 40, 3) := by decide +kernel
theorem dX11_passBlanks_30 : decode cX11_passBlanks 30 = .ok (.aload_n 0, 1) := by decide +kernel
theorem dX11_passBlanks_31 : decode cX11_passBlanks 31 = .ok (.getfield 261, 3) := by decide +kernel
theorem dX11_passBlanks_34 : decode cX11_passBlanks 34 = .ok (.aload_n 0, 1) := by decide +kernel
theorem dX11_passBlanks_35 : decode cX11_passBlanks 35 = .ok (.getfield 254, 3) := by decide +kernel
theorem dX11_passBlanks_38 : decode cX11_passBlanks 38 = .ok (.if_icmp .ge (-36), 3) := by decide +kernel
theorem dX11_passBlanks_41 : decode cX11_passBlanks 41 = .ok (.aload_n 0, 1) := by decide +kernel
theorem dX11_passBlanks_42 : decode cX11_passBlanks 42 = .ok (.aload_n 0, 1) := by decide +kernel
theorem dX11_passBlanks_43 : decode cX11_passBlanks 43 = .ok (.getfield 261, 3) := by decide +kernel
theorem dX11_passBlanks_46 : decode cX11_passBlanks 46 = .ok (.invokevirtual 264, 3) := by decide +kernel
theorem dX11_passBlanks_49 : decode cX11_passBlanks 49 = .ok (.bipush 10, 2) := by decide +kernel
theorem dX11_passBlanks_51 : decode cX11_passBlanks 51 = .ok (.if_icmp .eq (-49), 3) := by decide +kernel
theorem dX11_passBlanks_54 : decode cX11_passBlanks 54 = .ok (.aload_n 0, 1) := by decide +kernel
theorem dX11_passBlanks_55 : decode cX11_passBlanks 55 = .ok (.dup, 1) := by decide +kernel
theorem dX11_passBlanks_56 : decode cX11_passBlanks 56 = .ok (.getfield 261, 3) := by decide +kernel
theorem dX11_passBlanks_59 : decode cX11_passBlanks 59 = .ok (.iconst 1, 1) := by decide +kernel
theorem dX11_passBlanks_60 : decode cX11_passBlanks 60 = .ok (.iadd, 1) := by decide +kernel
theorem dX11_passBlanks_61 : decode cX11_passBlanks 61 = .ok (.putfield 261, 3) := by decide +kernel
theorem dX11_passBlanks_64 : decode cX11_passBlanks 64 = .ok (.goto (-34), 3) := by decide +kernel
theorem dX11_passBlanks_67 : decode cX11_passBlanks 67 = .ok (.aload_n 0, 1) := by decide +kernel
theorem dX11_passBlanks_68 : decode cX11_passBlanks 68 = .ok (.aload_n 0, 1) := by decide +kernel
theorem dX11_passBlanks_69 : decode cX11_passBlanks 69 = .ok (.getfield 261, 3) := by decide +kernel
theorem dX11_passBlanks_72 : decode cX11_passBlanks 72 = .ok (.invokevirtual 264, 3) := by decide +kernel
theorem dX11_passBlanks_75 : decode cX11_passBlanks 75 = .ok (.bipush 32, 2) := by decide +kernel
theorem dX11_passBlanks_77 : decode cX11_passBlanks 77 = .ok (.if_icmp .eq 16, 3) := by decide +kernel
theorem dX11_passBlanks_80 : decode cX11_passBlanks 80 = .ok (.aload_n 0, 1) := by decide +kernel
theorem dX11_passBlanks_81 : decode cX11_passBlanks 81 = .ok (.aload_n 0, 1) := by decide +kernel
theorem dX11_passBlanks_82 : decode cX11_passBlanks 82 = .ok (.getfield 261, 3) := by decide +kernel
theorem dX11_passBlanks_85 : decode cX11_passBlanks 85 = .ok (.invokevirtual 264, 3) := by decide +kernel
theorem dX11_passBlanks_88 : decode cX11_passBlanks 88 = .ok (.bipush 10, 2) := by decide +kernel
theorem dX11_passBlanks_90 : decode cX11_passBlanks 90 = .ok (.if_icmp .ne 16, 3) := by decide +kernel
theorem dX11_passBlanks_93 : decode cX11_passBlanks 93 = .ok (.aload_n 0, 1) := by decide +kernel
theorem dX11_passBlanks_94 : decode cX11_passBlanks 94 = .ok (.dup, 1) := by decide +kernel
theorem dX11_passBlanks_95 : decode cX11_passBlanks 95 = .ok (.getfield 261, 3) := by decide +kernel
theorem dX11_passBlanks_98 : decode cX11_passBlanks 98 = .ok (.iconst 1, 1) := by decide +kernel
theorem dX11_passBlanks_99 : decode cX11_passBlanks 99 = .ok (.iadd, 1) := by decide +kernel
theorem dX11_passBlanks_100 : decode cX11_passBlanks 100 = .ok (.putfield 261, 3) := by decide +kernel
theorem dX11_passBlanks_103 : decode cX11_passBlanks 103 = .ok (.goto (-101), 3) := by decide +kernel
theorem dX11_passBlanks_106 : decode cX11_passBlanks 106 = .ok (.iconst 0, 1) := by decide +kernel
theorem dX11_passBlanks_107 : decode cX11_passBlanks 107 = .ok (.istore_n 1, 1) := by decide +kernel
theorem dX11_passBlanks_108 : decode cX11_passBlanks 108 = .ok (.goto (-106), 3) := by decide +kernel
theorem dX11_passBlanks_111 : decode cX11_passBlanks 111 = .ok (.return_, 1) := by decide +kernel
theorem mw_X11_passBlanks : MW yX11_passBlanks (Cond.code yX11_passBlanks cX11_passBlanks 2 (Option.none : Option Jvm.ClassFile.FieldType)) cX11_passBlanks 2 (Option.none : Option Jvm.ClassFile.FieldType) 0 := ⟨rfl, ⟨(lw_all_tbl q2939), rfl, (lw_all_tbl q173)⟩, rfl, ⟨by decide, by decide⟩, by decide +kernel⟩
abbrev okt_passBlanks_30 (x : Int) : Prop := rg .boolean x
abbrev lvt_passBlanks_30 (Γ : Gm) (x : Int) : List (Nat × Value) := [(0, vA (mg Γ) 21), (1, vI x)]
noncomputable def t_passBlanks_30b {A : Type} (k_2 : Int → Mo TS A) (l1 : Int) : Mo TS ((Int) ⊕ A) :=
  bnd (gs 5) fun v1 =>
  bnd (gs 2) fun v2 =>
  if v2 ≤ v1 then
    lo (k_2 l1)
  else
    bnd (gs 5) fun v3 =>
    bnd (t_sign v3) fun v4 =>
    if v4 = 10 then
      lo (k_2 l1)
    else
      bnd (gs 5) fun v5 =>
      bnd (ss 5 (w32 (v5 + 1))) fun _ =>
      pr (.inl l1)
theorem st_passBlanks_30b {Γ : Gm} {h : CH} {d : Nat} (hT : HT h) (o : Ok Γ "LazyForgeModel" cX11_passBlanks 2 (Option.none : Option Jvm.ClassFile.FieldType) (d + 1)) {A : Type} {K : A → TS → Prop} (k_2 : Int → Mo TS A) (hk_2 : ∀ (l1 : Int), rg .boolean l1 → Sx Γ (fun t => (h, t)) K 2 [(0, vA (mg Γ) 21), (1, vI l1)] [] (k_2 l1)) (l1 : Int) (hl1 : rg .boolean l1) : Sx Γ (fun t => (h, t)) (KL Γ (fun t => (h, t)) okt_passBlanks_30 K 30 (lvt_passBlanks_30 Γ) []) 30 [(0, vA (mg Γ) 21), (1, vI l1)] [] (t_passBlanks_30b k_2 l1) := by
  unfold t_passBlanks_30b
  refine s_aload_n o dX11_passBlanks_30 rfl 0 rfl ?_
  refine r_tgf vI rfl o hT tf_at tj_at (lw_all_tbl q2509) dX11_passBlanks_31 (fun v1 hv1 => ?_)
  refine s_aload_n o dX11_passBlanks_34 rfl 0 rfl ?_
  refine r_tgf vI rfl o hT tf_size tj_size (lw_all_tbl q2506) dX11_passBlanks_35 (fun v2 hv2 => ?_)
  refine s_icmp_ge (tgt := 2) o dX11_passBlanks_38 (by decide) hv1 hv2 ?_ ?_
  · exact s_lo (hk_2 l1 hl1)
  · refine s_aload_n o dX11_passBlanks_41 rfl 0 rfl ?_
    refine s_aload_n o dX11_passBlanks_42 rfl 0 rfl ?_
    refine r_tgf vI rfl o hT tf_at tj_at (lw_all_tbl q2509) dX11_passBlanks_43 (fun v3 hv3 => ?_)
    refine s_cv (d := d + 0) (C := "LazyForgeModel") (As := [vI v3]) (st := []) o (st_sign (mg Γ) d h hT v3 hv3) mw_X11_sign rfl (Or.inl (lw_all_tbl q2940)) (lw_all_tbl qs59) (lw_all_tbl q2942) (fun t => rc_t o hT t) wt_0 rfl dX11_passBlanks_46 rfl (rs := fun r => [vI r]) (fun _ => rfl) (fun v4 hv4 => ?_)
    refine s_bipush o dX11_passBlanks_49 rfl ?_
    refine s_icmp_eq (tgt := 2) o dX11_passBlanks_51 (by decide) (hv4 _ rfl) (r32 rfl) ?_ ?_
    · exact s_lo (hk_2 l1 hl1)
    · refine s_aload_n o dX11_passBlanks_54 rfl 0 rfl ?_
      refine s_dup o dX11_passBlanks_55 (vA_cat (mg Γ) 21) ?_
      refine r_tgf vI rfl o hT tf_at tj_at (lw_all_tbl q2509) dX11_passBlanks_56 (fun v5 hv5 => ?_)
      refine s_iconst o dX11_passBlanks_59 ?_
      refine s_iadd o dX11_passBlanks_60 ?_
      refine r_tpf vI rfl o hT tf_at tj_at (lw_all_tbl q2509) dX11_passBlanks_61 (w32_R _) ty_int ?_
      refine s_goto (tgt := 30) o dX11_passBlanks_64 (by decide) ?_
      exact s_back hl1 rfl
noncomputable def t_passBlanks_30 {A : Type} (k_2 : Int → Mo TS A) (l1 : Int) : Mo TS A := Loop (fun x => t_passBlanks_30b k_2 x) l1
theorem st_passBlanks_30 {Γ : Gm} {h : CH} {d : Nat} (hT : HT h) (o : Ok Γ "LazyForgeModel" cX11_passBlanks 2 (Option.none : Option Jvm.ClassFile.FieldType) (d + 1)) {A : Type} {K : A → TS → Prop} (k_2 : Int → Mo TS A) (hk_2 : ∀ (l1 : Int), rg .boolean l1 → Sx Γ (fun t => (h, t)) K 2 [(0, vA (mg Γ) 21), (1, vI l1)] [] (k_2 l1)) (l1 : Int) (hl1 : rg .boolean l1) : Sx Γ (fun t => (h, t)) K 30 [(0, vA (mg Γ) 21), (1, vI l1)] [] (t_passBlanks_30 k_2 l1) :=
  s_loop okt_passBlanks_30 (lvt_passBlanks_30 Γ) (fun x hx => st_passBlanks_30b hT o k_2 hk_2 x hx) (x := l1) hl1
abbrev okt_passBlanks_2 (x : Int) : Prop := rg .boolean x
abbrev lvt_passBlanks_2 (Γ : Gm) (x : Int) : List (Nat × Value) := [(0, vA (mg Γ) 21), (1, vI x)]
noncomputable def t_passBlanks_93 {A : Type} (k_111 : Mo TS A) (l1 : Int) : Mo TS ((Int) ⊕ A) :=
  bnd (gs 5) fun v1 =>
  bnd (ss 5 (w32 (v1 + 1))) fun _ =>
  pr (.inl l1)
theorem st_passBlanks_93 {Γ : Gm} {h : CH} {d : Nat} (hT : HT h) (o : Ok Γ "LazyForgeModel" cX11_passBlanks 2 (Option.none : Option Jvm.ClassFile.FieldType) (d + 1)) {A : Type} {K : A → TS → Prop}  (k_111 : Mo TS A) (hk_111 : Sx Γ (fun t => (h, t)) K 111 [] [] (k_111)) (l1 : Int) (hl1 : rg .boolean l1) : Sx Γ (fun t => (h, t)) (KL Γ (fun t => (h, t)) okt_passBlanks_2 K 2 (lvt_passBlanks_2 Γ) []) 93 [(0, vA (mg Γ) 21), (1, vI l1)] [] (t_passBlanks_93 k_111 l1) := by
  unfold t_passBlanks_93
  refine s_aload_n o dX11_passBlanks_93 rfl 0 rfl ?_
  refine s_dup o dX11_passBlanks_94 (vA_cat (mg Γ) 21) ?_
  refine r_tgf vI rfl o hT tf_at tj_at (lw_all_tbl q2509) dX11_passBlanks_95 (fun v1 hv1 => ?_)
  refine s_iconst o dX11_passBlanks_98 ?_
  refine s_iadd o dX11_passBlanks_99 ?_
  refine r_tpf vI rfl o hT tf_at tj_at (lw_all_tbl q2509) dX11_passBlanks_100 (w32_R _) ty_int ?_
  refine s_goto (tgt := 2) o dX11_passBlanks_103 (by decide) ?_
  exact s_back hl1 rfl
noncomputable def t_passBlanks_2b {A : Type} (k_111 : Mo TS A) (l1 : Int) : Mo TS ((Int) ⊕ A) :=
  if l1 = 0 then
    lo k_111
  else
    bnd (gs 5) fun v1 =>
    bnd (gs 2) fun v2 =>
    if v2 ≤ v1 then
      lo k_111
    else
      bnd (gs 5) fun v3 =>
      bnd (t_sign v3) fun v4 =>
      if ¬ v4 = 35 then
        bnd (gs 5) fun v5 =>
        bnd (t_sign v5) fun v6 =>
        if v6 = 32 then
          t_passBlanks_93 k_111 l1
        else
          bnd (gs 5) fun v7 =>
          bnd (t_sign v7) fun v8 =>
          if ¬ v8 = 10 then
            pr (.inl 0)
          else
            t_passBlanks_93 k_111 l1
      else
        t_passBlanks_30
          (fun v9 => pr (.inl v9)) l1
theorem st_passBlanks_2b {Γ : Gm} {h : CH} {d : Nat} (hT : HT h) (o : Ok Γ "LazyForgeModel" cX11_passBlanks 2 (Option.none : Option Jvm.ClassFile.FieldType) (d + 1)) {A : Type} {K : A → TS → Prop} (k_111 : Mo TS A) (hk_111 : Sx Γ (fun t => (h, t)) K 111 [] [] (k_111)) (l1 : Int) (hl1 : rg .boolean l1) : Sx Γ (fun t => (h, t)) (KL Γ (fun t => (h, t)) okt_passBlanks_2 K 2 (lvt_passBlanks_2 Γ) []) 2 [(0, vA (mg Γ) 21), (1, vI l1)] [] (t_passBlanks_2b k_111 l1) := by
  unfold t_passBlanks_2b
  refine s_iload_n o dX11_passBlanks_2 rfl 1 rfl ?_
  refine s_if_eq (tgt := 111) o dX11_passBlanks_3 (by decide) (rZ hl1) ?_ ?_
  · refine r_to [] [] rfl ?_
    exact s_lo hk_111
  · refine s_aload_n o dX11_passBlanks_6 rfl 0 rfl ?_
    refine r_tgf vI rfl o hT tf_at tj_at (lw_all_tbl q2509) dX11_passBlanks_7 (fun v1 hv1 => ?_)
    refine s_aload_n o dX11_passBlanks_10 rfl 0 rfl ?_
    refine r_tgf vI rfl o hT tf_size tj_size (lw_all_tbl q2506) dX11_passBlanks_11 (fun v2 hv2 => ?_)
    refine s_icmp_ge (tgt := 111) o dX11_passBlanks_14 (by decide) hv1 hv2 ?_ ?_
    · refine r_to [] [] rfl ?_
      exact s_lo hk_111
    · refine s_aload_n o dX11_passBlanks_17 rfl 0 rfl ?_
      refine s_aload_n o dX11_passBlanks_18 rfl 0 rfl ?_
      refine r_tgf vI rfl o hT tf_at tj_at (lw_all_tbl q2509) dX11_passBlanks_19 (fun v3 hv3 => ?_)
      refine s_cv (d := d + 0) (C := "LazyForgeModel") (As := [vI v3]) (st := []) o (st_sign (mg Γ) d h hT v3 hv3) mw_X11_sign rfl (Or.inl (lw_all_tbl q2940)) (lw_all_tbl qs59) (lw_all_tbl q2942) (fun t => rc_t o hT t) wt_0 rfl dX11_passBlanks_22 rfl (rs := fun r => [vI r]) (fun _ => rfl) (fun v4 hv4 => ?_)
      refine s_bipush o dX11_passBlanks_25 rfl ?_
      refine s_icmp_ne (tgt := 67) o dX11_passBlanks_27 (by decide) (hv4 _ rfl) (r32 rfl) ?_ ?_
      · refine s_aload_n o dX11_passBlanks_67 rfl 0 rfl ?_
        refine s_aload_n o dX11_passBlanks_68 rfl 0 rfl ?_
        refine r_tgf vI rfl o hT tf_at tj_at (lw_all_tbl q2509) dX11_passBlanks_69 (fun v5 hv5 => ?_)
        refine s_cv (d := d + 0) (C := "LazyForgeModel") (As := [vI v5]) (st := []) o (st_sign (mg Γ) d h hT v5 hv5) mw_X11_sign rfl (Or.inl (lw_all_tbl q2940)) (lw_all_tbl qs59) (lw_all_tbl q2942) (fun t => rc_t o hT t) wt_0 rfl dX11_passBlanks_72 rfl (rs := fun r => [vI r]) (fun _ => rfl) (fun v6 hv6 => ?_)
        refine s_bipush o dX11_passBlanks_75 rfl ?_
        refine s_icmp_eq (tgt := 93) o dX11_passBlanks_77 (by decide) (hv6 _ rfl) (r32 rfl) ?_ ?_
        · exact st_passBlanks_93 hT o k_111 hk_111 l1 hl1
        · refine s_aload_n o dX11_passBlanks_80 rfl 0 rfl ?_
          refine s_aload_n o dX11_passBlanks_81 rfl 0 rfl ?_
          refine r_tgf vI rfl o hT tf_at tj_at (lw_all_tbl q2509) dX11_passBlanks_82 (fun v7 hv7 => ?_)
          refine s_cv (d := d + 0) (C := "LazyForgeModel") (As := [vI v7]) (st := []) o (st_sign (mg Γ) d h hT v7 hv7) mw_X11_sign rfl (Or.inl (lw_all_tbl q2940)) (lw_all_tbl qs59) (lw_all_tbl q2942) (fun t => rc_t o hT t) wt_0 rfl dX11_passBlanks_85 rfl (rs := fun r => [vI r]) (fun _ => rfl) (fun v8 hv8 => ?_)
          refine s_bipush o dX11_passBlanks_88 rfl ?_
          refine s_icmp_ne (tgt := 106) o dX11_passBlanks_90 (by decide) (hv8 _ rfl) (r32 rfl) ?_ ?_
          · refine s_iconst o dX11_passBlanks_106 ?_
            refine r_istore_nP o dX11_passBlanks_107 rfl rfl [(0, vA (mg Γ) 21)] [0] rfl ⟨(Nat.ne_of_beq_eq_false rfl), (fun _ => (vA_cat (mg Γ) 21)), trivial⟩ ?_
            refine s_goto (tgt := 2) o dX11_passBlanks_108 (by decide) ?_
            refine r_to [(0, vA (mg Γ) 21), (1, vI 0)] [1, 0] rfl ?_
            exact s_back (Or.inl rfl) rfl
          · exact st_passBlanks_93 hT o k_111 hk_111 l1 hl1
      · refine st_passBlanks_30 hT o _ ?_ l1 hl1
        · intro v9 hv9
          exact s_back hv9 rfl
noncomputable def t_passBlanks_2 {A : Type} (k_111 : Mo TS A) (l1 : Int) : Mo TS A := Loop (fun x => t_passBlanks_2b k_111 x) l1
theorem st_passBlanks_2 {Γ : Gm} {h : CH} {d : Nat} (hT : HT h) (o : Ok Γ "LazyForgeModel" cX11_passBlanks 2 (Option.none : Option Jvm.ClassFile.FieldType) (d + 1)) {A : Type} {K : A → TS → Prop} (k_111 : Mo TS A) (hk_111 : Sx Γ (fun t => (h, t)) K 111 [] [] (k_111)) (l1 : Int) (hl1 : rg .boolean l1) : Sx Γ (fun t => (h, t)) K 2 [(0, vA (mg Γ) 21), (1, vI l1)] [] (t_passBlanks_2 k_111 l1) :=
  s_loop okt_passBlanks_2 (lvt_passBlanks_2 Γ) (fun x hx => st_passBlanks_2b hT o k_111 hk_111 x hx) (x := l1) hl1
noncomputable def t_passBlanks : Mo TS Int :=
  t_passBlanks_2
    (pr 0) 1
theorem st_passBlanks (g : gC) (d : Nat) (h : CH) (hT : HT h) : SF g yX11_passBlanks (Cond.code yX11_passBlanks cX11_passBlanks 2 (Option.none : Option Jvm.ClassFile.FieldType)) (Option.none : Option Jvm.ClassFile.FieldType) (d + 1) [vA g 21] (fun t => (h, t)) (t_passBlanks) := by
  refine SF.of (lv := [(0, vA g 21)]) (by decide) (wt_A wt_0) rfl (by simp only [la_A, la_I, la_J, la_0]) (fun Γ hg hnm o => ?_)
  subst hg
  have o : Ok Γ "LazyForgeModel" cX11_passBlanks 2 (Option.none : Option Jvm.ClassFile.FieldType) (d + 1) := o
  unfold t_passBlanks
  refine s_iconst o dX11_passBlanks_0 ?_
  refine r_istore_n o dX11_passBlanks_1 rfl rfl ⟨(Nat.ne_of_beq_eq_false rfl), (fun _ => (vA_cat (mg Γ) 21)), trivial⟩ ?_
  refine r_to [(0, vA (mg Γ) 21), (1, vI 1)] [1, 0] rfl ?_
  refine st_passBlanks_2 hT o _ ?_ 1 (Or.inr rfl)
  · exact s_vret o rfl dX11_passBlanks_111 (fun _ hh => hh)
theorem dX11_keyword_0 : decode cX11_keyword 0 = .ok (.lload_n 0, 1) := by decide +kernel
theorem dX11_keyword_1 : decode cX11_keyword 1 = .ok (.bipush 100, 2) := by decide +kernel
theorem dX11_keyword_3 : decode cX11_keyword 3 = .ok (.bipush 97, 2) := by decide +kernel
theorem dX11_keyword_5 : decode cX11_keyword 5 = .ok (.bipush 116, 2) := by decide +kernel
theorem dX11_keyword_7 : decode cX11_keyword 7 = .ok (.bipush 97, 2) := by decide +kernel
theorem dX11_keyword_9 : decode cX11_keyword 9 = .ok (.iconst 0, 1) := by decide +kernel
theorem dX11_keyword_10 : decode cX11_keyword 10 = .ok (.invokestatic 257, 3) := by decide +kernel
theorem dX11_keyword_13 : decode cX11_keyword 13 = .ok (.lcmp, 1) := by decide +kernel
theorem dX11_keyword_14 : decode cX11_keyword 14 = .ok (.ifCond .ne 6, 3) := by decide +kernel
theorem dX11_keyword_17 : decode cX11_keyword 17 = .ok (.bipush 10, 2) := by decide +kernel
theorem dX11_keyword_19 : decode cX11_keyword 19 = .ok (.ireturn, 1) := by decide +kernel
theorem dX11_keyword_20 : decode cX11_keyword 20 = .ok (.lload_n 0, 1) := by decide +kernel
theorem dX11_keyword_21 : decode cX11_keyword 21 = .ok (.bipush 108, 2) := by decide +kernel
theorem dX11_keyword_23 : decode cX11_keyword 23 = .ok (.bipush 101, 2) := by decide +kernel
theorem dX11_keyword_25 : decode cX11_keyword 25 = .ok (.bipush 116, 2) := by decide +kernel
theorem dX11_keyword_27 : decode cX11_keyword 27 = .ok (.iconst 0, 1) := by decide +kernel
theorem dX11_keyword_28 : decode cX11_keyword 28 = .ok (.iconst 0, 1) := by decide +kernel
theorem dX11_keyword_29 : decode cX11_keyword 29 = .ok (.invokestatic 257, 3) := by decide +kernel
theorem dX11_keyword_32 : decode cX11_keyword 32 = .ok (.lcmp, 1) := by decide +kernel
theorem dX11_keyword_33 : decode cX11_keyword 33 = .ok (.ifCond .ne 6, 3) := by decide +kernel
theorem dX11_keyword_36 : decode cX11_keyword 36 = .ok (.bipush 11, 2) := by decide +kernel
theorem dX11_keyword_38 : decode cX11_keyword 38 = .ok (.ireturn, 1) := by decide +kernel
theorem dX11_keyword_39 : decode cX11_keyword 39 = .ok (.lload_n 0, 1) := by decide +kernel
theorem dX11_keyword_40 : decode cX11_keyword 40 = .ok (.bipush 105, 2) := by decide +kernel
theorem dX11_keyword_42 : decode cX11_keyword 42 = .ok (.bipush 110, 2) := by decide +kernel
theorem dX11_keyword_44 : decode cX11_keyword 44 = .ok (.iconst 0, 1) := by decide +kernel
theorem dX11_keyword_45 : decode cX11_keyword 45 = .ok (.iconst 0, 1) := by decide +kernel
theorem dX11_keyword_46 : decode cX11_keyword 46 = .ok (.iconst 0, 1) := by decide +kernel
theorem dX11_keyword_47 : decode cX11_keyword 47 = .ok (.invokestatic 257, 3) := by decide +kernel
theorem dX11_keyword_50 : decode cX11_keyword 50 = .ok (.lcmp, 1) := by decide +kernel
theorem dX11_keyword_51 : decode cX11_keyword 51 = .ok (.ifCond .ne 6, 3) := by decide +kernel
theorem dX11_keyword_54 : decode cX11_keyword 54 = .ok (.bipush 12, 2) := by decide +kernel
theorem dX11_keyword_56 : decode cX11_keyword 56 = .ok (.ireturn, 1) := by decide +kernel
theorem dX11_keyword_57 : decode cX11_keyword 57 = .ok (.lload_n 0, 1) := by decide +kernel
theorem dX11_keyword_58 : decode cX11_keyword 58 = .ok (.bipush 99, 2) := by decide +kernel
theorem dX11_keyword_60 : decode cX11_keyword 60 = .ok (.bipush 97, 2) := by decide +kernel
theorem dX11_keyword_62 : decode cX11_keyword 62 = .ok (.bipush 115, 2) := by decide +kernel
theorem dX11_keyword_64 : decode cX11_keyword 64 = .ok (.bipush 101, 2) := by decide +kernel
theorem dX11_keyword_66 : decode cX11_keyword 66 = .ok (.iconst 0, 1) := by decide +kernel
theorem dX11_keyword_67 : decode cX11_keyword 67 = .ok (.invokestatic 257, 3) := by decide +kernel
theorem dX11_keyword_70 : decode cX11_keyword 70 = .ok (.lcmp, 1) := by decide +kernel
theorem dX11_keyword_71 : decode cX11_keyword 71 = .ok (.ifCond .ne 6, 3) := by decide +kernel
theorem dX11_keyword_74 : decode cX11_keyword 74 = .ok (.bipush 13, 2) := by decide +kernel
theorem dX11_keyword_76 : decode cX11_keyword 76 = .ok (.ireturn, 1) := by decide +kernel
theorem dX11_keyword_77 : decode cX11_keyword 77 = .ok (.lload_n 0, 1) := by decide +kernel
theorem dX11_keyword_78 : decode cX11_keyword 78 = .ok (.bipush 111, 2) := by decide +kernel
theorem dX11_keyword_80 : decode cX11_keyword 80 = .ok (.bipush 102, 2) := by decide +kernel
theorem dX11_keyword_82 : decode cX11_keyword 82 = .ok (.iconst 0, 1) := by decide +kernel
theorem dX11_keyword_83 : decode cX11_keyword 83 = .ok (.iconst 0, 1) := by decide +kernel
theorem dX11_keyword_84 : decode cX11_keyword 84 = .ok (.iconst 0, 1) := by decide +kernel
theorem dX11_keyword_85 : decode cX11_keyword 85 = .ok (.invokestatic 257, 3) := by decide +kernel
theorem dX11_keyword_88 : decode cX11_keyword 88 = .ok (.lcmp, 1) := by decide +kernel
theorem dX11_keyword_89 : decode cX11_keyword 89 = .ok (.ifCond .ne 6, 3) := by decide +kernel
theorem dX11_keyword_92 : decode cX11_keyword 92 = .ok (.bipush 14, 2) := by decide +kernel
theorem dX11_keyword_94 : decode cX11_keyword 94 = .ok (.ireturn, 1) := by decide +kernel
theorem dX11_keyword_95 : decode cX11_keyword 95 = .ok (.lload_n 0, 1) := by decide +kernel
theorem dX11_keyword_96 : decode cX11_keyword 96 = .ok (.bipush 102, 2) := by decide +kernel
theorem dX11_keyword_98 : decode cX11_keyword 98 = .ok (.bipush 97, 2) := by decide +kernel
theorem dX11_keyword_100 : decode cX11_keyword 100 = .ok (.bipush 105, 2) := by decide +kernel
theorem dX11_keyword_102 : decode cX11_keyword 102 = .ok (.bipush 108, 2) := by decide +kernel
theorem dX11_keyword_104 : decode cX11_keyword 104 = .ok (.iconst 0, 1) := by decide +kernel
theorem dX11_keyword_105 : decode cX11_keyword 105 = .ok (.invokestatic 257, 3) := by decide +kernel
theorem dX11_keyword_108 : decode cX11_keyword 108 = .ok (.lcmp, 1) := by decide +kernel
theorem dX11_keyword_109 : decode cX11_keyword 109 = .ok (.ifCond .ne 8, 3) := by decide +kernel
theorem dX11_keyword_112 : decode cX11_keyword 112 = .ok (.bipush 15, 2) := by decide +kernel
theorem dX11_keyword_114 : decode cX11_keyword 114 = .ok (.goto 4, 3) := by decide +kernel
theorem dX11_keyword_117 : decode cX11_keyword 117 = .ok (.iconst 3, 1) := by decide +kernel
theorem dX11_keyword_118 : decode cX11_keyword 118 = .ok (.ireturn, 1) := by decide +kernel
theorem mw_X11_keyword : MW yX11_keyword (Cond.code yX11_keyword cX11_keyword 2 (Option.some Jvm.ClassFile.FieldType.int)) cX11_keyword 2 (Option.some Jvm.ClassFile.FieldType.int) 1 := ⟨rfl, ⟨(lw_all_tbl q2959), rfl, (lw_all_tbl q173)⟩, rfl, ⟨by decide, by decide⟩, by decide +kernel⟩
noncomputable def t_keyword (l0 : Int) : Mo TS Int :=
  bnd (t_pack 100 97 116 97 0) fun v1 =>
  if ¬ l0 = v1 then
    bnd (t_pack 108 101 116 0 0) fun v2 =>
    if ¬ l0 = v2 then
      bnd (t_pack 105 110 0 0 0) fun v3 =>
      if ¬ l0 = v3 then
        bnd (t_pack 99 97 115 101 0) fun v4 =>
        if ¬ l0 = v4 then
          bnd (t_pack 111 102 0 0 0) fun v5 =>
          if ¬ l0 = v5 then
            bnd (t_pack 102 97 105 108 0) fun v6 =>
            if ¬ l0 = v6 then
              pr 3
            else
              pr 15
          else
            pr 14
        else
          pr 13
      else
        pr 12
    else
      pr 11
  else
    pr 10
theorem st_keyword (g : gC) (d : Nat) (h : CH) (l0 : Int) (hl0 : R64 l0) : SF g yX11_keyword (Cond.code yX11_keyword cX11_keyword 2 (Option.some Jvm.ClassFile.FieldType.int)) (Option.some Jvm.ClassFile.FieldType.int) (d + 1) [vJ l0] (fun t => (h, t)) (t_keyword l0) := by
  refine SF.of (lv := [(0, vJ l0)]) (by decide) (wt_J wt_0) rfl (by simp only [la_A, la_I, la_J, la_0]) (fun Γ hg hnm o => ?_)
  subst hg
  have o : Ok Γ "LazyForgeModel" cX11_keyword 2 (Option.some Jvm.ClassFile.FieldType.int) (d + 1) := o
  unfold t_keyword
  refine s_lload_n o dX11_keyword_0 rfl 0 rfl ?_
  refine s_bipush o dX11_keyword_1 rfl ?_
  refine s_bipush o dX11_keyword_3 rfl ?_
  refine s_bipush o dX11_keyword_5 rfl ?_
  refine s_bipush o dX11_keyword_7 rfl ?_
  refine s_iconst o dX11_keyword_9 ?_
  refine s_cs (d := d + 0) (As := [vI 100, vI 97, vI 116, vI 97, vI 0]) (st := [vJ l0]) o (st_pack (mg Γ) d h 100 97 116 97 0 (r32 rfl) (r32 rfl) (r32 rfl) (r32 rfl) (r32 rfl)) mw_X11_pack rfl (Or.inl (lw_all_tbl q2929)) (lw_all_tbl q2930) (wt_J wt_0) rfl dX11_keyword_10 rfl (rs := fun r => [vJ r, vJ l0]) (fun _ => rfl) (fun v1 hv1 => ?_)
  refine s_lcmp_ne (tgt := 20) o dX11_keyword_13 dX11_keyword_14 (by decide) hl0 (hv1 _ rfl) ?_ ?_
  · refine s_lload_n o dX11_keyword_20 rfl 0 rfl ?_
    refine s_bipush o dX11_keyword_21 rfl ?_
    refine s_bipush o dX11_keyword_23 rfl ?_
    refine s_bipush o dX11_keyword_25 rfl ?_
    refine s_iconst o dX11_keyword_27 ?_
    refine s_iconst o dX11_keyword_28 ?_
    refine s_cs (d := d + 0) (As := [vI 108, vI 101, vI 116, vI 0, vI 0]) (st := [vJ l0]) o (st_pack (mg Γ) d h 108 101 116 0 0 (r32 rfl) (r32 rfl) (r32 rfl) (r32 rfl) (r32 rfl)) mw_X11_pack rfl (Or.inl (lw_all_tbl q2929)) (lw_all_tbl q2930) (wt_J wt_0) rfl dX11_keyword_29 rfl (rs := fun r => [vJ r, vJ l0]) (fun _ => rfl) (fun v2 hv2 => ?_)
    refine s_lcmp_ne (tgt := 39) o dX11_keyword_32 dX11_keyword_33 (by decide) hl0 (hv2 _ rfl) ?_ ?_
    · refine s_lload_n o dX11_keyword_39 rfl 0 rfl ?_
      refine s_bipush o dX11_keyword_40 rfl ?_
      refine s_bipush o dX11_keyword_42 rfl ?_
      refine s_iconst o dX11_keyword_44 ?_
      refine s_iconst o dX11_keyword_45 ?_
      refine s_iconst o dX11_keyword_46 ?_
      refine s_cs (d := d + 0) (As := [vI 105, vI 110, vI 0, vI 0, vI 0]) (st := [vJ l0]) o (st_pack (mg Γ) d h 105 110 0 0 0 (r32 rfl) (r32 rfl) (r32 rfl) (r32 rfl) (r32 rfl)) mw_X11_pack rfl (Or.inl (lw_all_tbl q2929)) (lw_all_tbl q2930) (wt_J wt_0) rfl dX11_keyword_47 rfl (rs := fun r => [vJ r, vJ l0]) (fun _ => rfl) (fun v3 hv3 => ?_)
      refine s_lcmp_ne (tgt := 57) o dX11_keyword_50 dX11_keyword_51 (by decide) hl0 (hv3 _ rfl) ?_ ?_
      · refine s_lload_n o dX11_keyword_57 rfl 0 rfl ?_
        refine s_bipush o dX11_keyword_58 rfl ?_
        refine s_bipush o dX11_keyword_60 rfl ?_
        refine s_bipush o dX11_keyword_62 rfl ?_
        refine s_bipush o dX11_keyword_64 rfl ?_
        refine s_iconst o dX11_keyword_66 ?_
        refine s_cs (d := d + 0) (As := [vI 99, vI 97, vI 115, vI 101, vI 0]) (st := [vJ l0]) o (st_pack (mg Γ) d h 99 97 115 101 0 (r32 rfl) (r32 rfl) (r32 rfl) (r32 rfl) (r32 rfl)) mw_X11_pack rfl (Or.inl (lw_all_tbl q2929)) (lw_all_tbl q2930) (wt_J wt_0) rfl dX11_keyword_67 rfl (rs := fun r => [vJ r, vJ l0]) (fun _ => rfl) (fun v4 hv4 => ?_)
        refine s_lcmp_ne (tgt := 77) o dX11_keyword_70 dX11_keyword_71 (by decide) hl0 (hv4 _ rfl) ?_ ?_
        · refine s_lload_n o dX11_keyword_77 rfl 0 rfl ?_
          refine s_bipush o dX11_keyword_78 rfl ?_
          refine s_bipush o dX11_keyword_80 rfl ?_
          refine s_iconst o dX11_keyword_82 ?_
          refine s_iconst o dX11_keyword_83 ?_
          refine s_iconst o dX11_keyword_84 ?_
          refine s_cs (d := d + 0) (As := [vI 111, vI 102, vI 0, vI 0, vI 0]) (st := [vJ l0]) o (st_pack (mg Γ) d h 111 102 0 0 0 (r32 rfl) (r32 rfl) (r32 rfl) (r32 rfl) (r32 rfl)) mw_X11_pack rfl (Or.inl (lw_all_tbl q2929)) (lw_all_tbl q2930) (wt_J wt_0) rfl dX11_keyword_85 rfl (rs := fun r => [vJ r, vJ l0]) (fun _ => rfl) (fun v5 hv5 => ?_)
          refine s_lcmp_ne (tgt := 95) o dX11_keyword_88 dX11_keyword_89 (by decide) hl0 (hv5 _ rfl) ?_ ?_
          · refine s_lload_n o dX11_keyword_95 rfl 0 rfl ?_
            refine s_bipush o dX11_keyword_96 rfl ?_
            refine s_bipush o dX11_keyword_98 rfl ?_
            refine s_bipush o dX11_keyword_100 rfl ?_
            refine s_bipush o dX11_keyword_102 rfl ?_
            refine s_iconst o dX11_keyword_104 ?_
            refine s_cs (d := d + 0) (As := [vI 102, vI 97, vI 105, vI 108, vI 0]) (st := [vJ l0]) o (st_pack (mg Γ) d h 102 97 105 108 0 (r32 rfl) (r32 rfl) (r32 rfl) (r32 rfl) (r32 rfl)) mw_X11_pack rfl (Or.inl (lw_all_tbl q2929)) (lw_all_tbl q2930) (wt_J wt_0) rfl dX11_keyword_105 rfl (rs := fun r => [vJ r, vJ l0]) (fun _ => rfl) (fun v6 hv6 => ?_)
            refine s_lcmp_ne (tgt := 117) o dX11_keyword_108 dX11_keyword_109 (by decide) hl0 (hv6 _ rfl) ?_ ?_
            · refine s_iconst o dX11_keyword_117 ?_
              exact s_iret o rfl i_int (r32 rfl) dX11_keyword_118 (fun _ hh => hh)
            · refine s_bipush o dX11_keyword_112 rfl ?_
              refine s_goto (tgt := 118) o dX11_keyword_114 (by decide) ?_
              exact s_iret o rfl i_int (r32 rfl) dX11_keyword_118 (fun _ hh => hh)
          · refine s_bipush o dX11_keyword_92 rfl ?_
            exact s_iret o rfl i_int (r32 rfl) dX11_keyword_94 (fun _ hh => hh)
        · refine s_bipush o dX11_keyword_74 rfl ?_
          exact s_iret o rfl i_int (r32 rfl) dX11_keyword_76 (fun _ hh => hh)
      · refine s_bipush o dX11_keyword_54 rfl ?_
        exact s_iret o rfl i_int (r32 rfl) dX11_keyword_56 (fun _ hh => hh)
    · refine s_bipush o dX11_keyword_36 rfl ?_
      exact s_iret o rfl i_int (r32 rfl) dX11_keyword_38 (fun _ hh => hh)
  · refine s_bipush o dX11_keyword_17 rfl ?_
    exact s_iret o rfl i_int (r32 rfl) dX11_keyword_19 (fun _ hh => hh)
theorem dX11_readNumber_0 : decode cX11_readNumber 0 = .ok (.lconst 0, 1) := by decide +kernel
theorem dX11_readNumber_1 : decode cX11_readNumber 1 = .ok (.lstore_n 1, 1) := by decide +kernel
theorem dX11_readNumber_2 : decode cX11_readNumber 2 = .ok (.aload_n 0, 1) := by decide +kernel
theorem dX11_readNumber_3 : decode cX11_readNumber 3 = .ok (.aload_n 0, 1) := by decide +kernel
theorem dX11_readNumber_4 : decode cX11_readNumber 4 = .ok (.getfield 261, 3) := by decide +kernel
theorem dX11_readNumber_7 : decode cX11_readNumber 7 = .ok (.invokevirtual 264, 3) := by decide +kernel
theorem dX11_readNumber_10 : decode cX11_readNumber 10 = .ok (.invokestatic 272, 3) := by decide +kernel
theorem dX11_readNumber_13 : decode cX11_readNumber 13 = .ok (.ifCond .eq 54, 3) := by decide +kernel
theorem dX11_readNumber_16 : decode cX11_readNumber 16 = .ok (.aload_n 0, 1) := by decide +kernel
theorem dX11_readNumber_17 : decode cX11_readNumber 17 = .ok (.getfield 261, 3) := by decide +kernel
theorem dX11_readNumber_20 : decode cX11_readNumber 20 = .ok (.aload_n 0, 1) := by decide +kernel
theorem dX11_readNumber_21 : decode cX11_readNumber 21 = .ok (.getfield 275, 3) := by decide +kernel
theorem dX11_readNumber_24 : decode cX11_readNumber 24 = .ok (.isub, 1) := by decide +kernel
theorem dX11_readNumber_25 : decode cX11_readNumber 25 = .ok (.bipush 10, 2) := by decide +kernel
theorem dX11_readNumber_27 : decode cX11_readNumber 27 = .ok (.if_icmp .ge 25, 3) := by decide +kernel
theorem dX11_readNumber_30 : decode cX11_readNumber 30 = .ok (.ldc2_w 289, 3) := by decide +kernel
theorem dX11_readNumber_33 : decode cX11_readNumber 33 = .ok (.lload_n 1, 1) := by decide +kernel
theorem dX11_readNumber_34 : decode cX11_readNumber 34 = .ok (.lmul, 1) := by decide +kernel
theorem dX11_readNumber_35 : decode cX11_readNumber 35 = .ok (.aload_n 0, 1) := by decide +kernel
theorem dX11_readNumber_36 : decode cX11_readNumber 36 = .ok (.aload_n 0, 1) := by decide +kernel
theorem dX11_readNumber_37 : decode cX11_readNumber 37 = .ok (.getfield 261, 3) := by decide +kernel
theorem dX11_readNumber_40 : decode cX11_readNumber 40 = .ok (.invokevirtual 264, 3) := by decide +kernel
theorem dX11_readNumber_43 : decode cX11_readNumber 43 = .ok (.i2l, 1) := by decide +kernel
theorem dX11_readNumber_44 : decode cX11_readNumber 44 = .ok (.ladd, 1) := by decide +kernel
theorem dX11_readNumber_45 : decode cX11_readNumber 45 = .ok (.ldc2_w 291, 3) := by decide +kernel
theorem dX11_readNumber_48 : decode cX11_readNumber 48 = .ok (.lsub, 1) := by decide +kernel
theorem dX11_readNumber_49 : decode cX11_readNumber 49 = .ok (.goto 4, 3) := by decide +kernel
theorem dX11_readNumber_52 : decode cX11_readNumber 52 = .ok (.lload_n 1, 1) := by decide +kernel
theorem dX11_readNumber_53 : decode cX11_readNumber 53 = .ok (.lstore_n 1, 1) := by decide +kernel
theorem dX11_readNumber_54 : decode cX11_readNumber 54 = .ok (.aload_n 0, 1) := by decide +kernel
theorem dX11_readNumber_55 : decode cX11_readNumber 55 = .ok (.dup, 1) := by decide +kernel
theorem dX11_readNumber_56 : decode cX11_readNumber 56 = .ok (.getfield 261, 3) := by decide +kernel
theorem dX11_readNumber_59 : decode cX11_readNumber 59 = .ok (.iconst 1, 1) := by decide +kernel
theorem dX11_readNumber_60 : decode cX11_readNumber 60 = .ok (.iadd, 1) := by decide +kernel
theorem dX11_readNumber_61 : decode cX11_readNumber 61 = .ok (.putfield 261, 3) := by decide +kernel
theorem dX11_readNumber_64 : decode cX11_readNumber 64 = .ok (.goto (-62), 3) := by decide +kernel
theorem dX11_readNumber_67 : decode cX11_readNumber 67 = .ok (.aload_n 0, 1) := by decide +kernel
theorem dX11_readNumber_68 : decode cX11_readNumber 68 = .ok (.aload_n 0, 1) := by decide +kernel
theorem dX11_readNumber_69 : decode cX11_readNumber 69 = .ok (.getfield 261, 3) := by decide +kernel
theorem dX11_readNumber_72 : decode cX11_readNumber 72 = .ok (.aload_n 0, 1) := by decide +kernel
theorem dX11_readNumber_73 : decode cX11_readNumber 73 = .ok (.getfield 275, 3) := by decide +kernel
theorem dX11_readNumber_76 : decode cX11_readNumber 76 = .ok (.isub, 1) := by decide +kernel
theorem dX11_readNumber_77 : decode cX11_readNumber 77 = .ok (.bipush 10, 2) := by decide +kernel
theorem dX11_readNumber_79 : decode cX11_readNumber 79 = .ok (.if_icmp .gt 11, 3) := by decide +kernel
theorem dX11_readNumber_82 : decode cX11_readNumber 82 = .ok (.lload_n 1, 1) := by decide +kernel
theorem dX11_readNumber_83 : decode cX11_readNumber 83 = .ok (.ldc2_w 293, 3) := by decide +kernel
theorem dX11_readNumber_86 : decode cX11_readNumber 86 = .ok (.lcmp, 1) := by decide +kernel
theorem dX11_readNumber_87 : decode cX11_readNumber 87 = .ok (.ifCond .le 7, 3) := by decide +kernel
theorem dX11_readNumber_90 : decode cX11_readNumber 90 = .ok (.iconst 1, 1) := by decide +kernel
theorem dX11_readNumber_91 : decode cX11_readNumber 91 = .ok (.goto 4, 3) := by decide +kernel
theorem dX11_readNumber_94 : decode cX11_readNumber 94 = .ok (.iconst 2, 1) := by decide +kernel
theorem dX11_readNumber_95 : decode cX11_readNumber 95 = .ok (.putfield 286, 3) := by decide +kernel
theorem dX11_readNumber_98 : decode cX11_readNumber 98 = .ok (.aload_n 0, 1) := by decide +kernel
theorem dX11_readNumber_99 : decode cX11_readNumber 99 = .ok (.lload_n 1, 1) := by decide +kernel
theorem dX11_readNumber_100 : decode cX11_readNumber 100 = .ok (.l2i, 1) := by decide +kernel
theorem dX11_readNumber_101 : decode cX11_readNumber 101 = .ok (.putfield 295, 3) := by decide +kernel
theorem dX11_readNumber_104 : decode cX11_readNumber 104 = .ok (.return_, 1) := by decide +kernel
theorem mw_X11_readNumber : MW yX11_readNumber (Cond.code yX11_readNumber cX11_readNumber 3 (Option.none : Option Jvm.ClassFile.FieldType)) cX11_readNumber 3 (Option.none : Option Jvm.ClassFile.FieldType) 0 := ⟨rfl, ⟨(lw_all_tbl q2963), rfl, (lw_all_tbl q173)⟩, rfl, ⟨by decide, by decide⟩, by decide +kernel⟩
abbrev okt_readNumber_2 (x : Int) : Prop := R64 x
abbrev lvt_readNumber_2 (Γ : Gm) (x : Int) : List (Nat × Value) := [(0, vA (mg Γ) 21), (1, vJ x)]
noncomputable def t_readNumber_53 {A : Type} (k_67 : Int → Mo TS A) (k0 : Int) : Mo TS ((Int) ⊕ A) :=
  bnd (gs 5) fun v1 =>
  bnd (ss 5 (w32 (v1 + 1))) fun _ =>
  pr (.inl k0)
theorem st_readNumber_53 {Γ : Gm} {h : CH} {d : Nat} (hT : HT h) (o : Ok Γ "LazyForgeModel" cX11_readNumber 3 (Option.none : Option Jvm.ClassFile.FieldType) (d + 1)) {A : Type} {K : A → TS → Prop}  (k_67 : Int → Mo TS A) (hk_67 : ∀ (l1 : Int), R64 l1 → Sx Γ (fun t => (h, t)) K 67 [(0, vA (mg Γ) 21), (1, vJ l1)] [] (k_67 l1)) (k0 : Int) (hk0 : R64 k0) : Sx Γ (fun t => (h, t)) (KL Γ (fun t => (h, t)) okt_readNumber_2 K 2 (lvt_readNumber_2 Γ) []) 53 [(0, vA (mg Γ) 21)] [vJ k0] (t_readNumber_53 k_67 k0) := by
  unfold t_readNumber_53
  refine r_lstore_n o dX11_readNumber_53 rfl rfl ⟨(Nat.ne_of_beq_eq_false rfl), (Nat.ne_of_beq_eq_false rfl), (fun _ => (vA_cat (mg Γ) 21)), trivial⟩ ?_
  refine s_aload_n o dX11_readNumber_54 rfl 1 rfl ?_
  refine s_dup o dX11_readNumber_55 (vA_cat (mg Γ) 21) ?_
  refine r_tgf vI rfl o hT tf_at tj_at (lw_all_tbl q2509) dX11_readNumber_56 (fun v1 hv1 => ?_)
  refine s_iconst o dX11_readNumber_59 ?_
  refine s_iadd o dX11_readNumber_60 ?_
  refine r_tpf vI rfl o hT tf_at tj_at (lw_all_tbl q2509) dX11_readNumber_61 (w32_R _) ty_int ?_
  refine s_goto (tgt := 2) o dX11_readNumber_64 (by decide) ?_
  refine r_to [(0, vA (mg Γ) 21), (1, vJ k0)] [1, 0] rfl ?_
  exact s_back hk0 rfl
noncomputable def t_readNumber_2b {A : Type} (k_67 : Int → Mo TS A) (l1 : Int) : Mo TS ((Int) ⊕ A) :=
  bnd (gs 5) fun v1 =>
  bnd (t_sign v1) fun v2 =>
  bnd (t_isDigit v2) fun v3 =>
  if v3 = 0 then
    lo (k_67 l1)
  else
    bnd (gs 5) fun v4 =>
    bnd (gs 7) fun v5 =>
    if 10 ≤ (w32 (v4 - v5)) then
      t_readNumber_53 k_67 l1
    else
      bnd (gs 5) fun v6 =>
      bnd (t_sign v6) fun v7 =>
      t_readNumber_53 k_67 (w64 ((w64 ((w64 (10 * l1)) + v7)) - 48))
theorem st_readNumber_2b {Γ : Gm} {h : CH} {d : Nat} (hT : HT h) (o : Ok Γ "LazyForgeModel" cX11_readNumber 3 (Option.none : Option Jvm.ClassFile.FieldType) (d + 1)) {A : Type} {K : A → TS → Prop} (k_67 : Int → Mo TS A) (hk_67 : ∀ (l1 : Int), R64 l1 → Sx Γ (fun t => (h, t)) K 67 [(0, vA (mg Γ) 21), (1, vJ l1)] [] (k_67 l1)) (l1 : Int) (hl1 : R64 l1) : Sx Γ (fun t => (h, t)) (KL Γ (fun t => (h, t)) okt_readNumber_2 K 2 (lvt_readNumber_2 Γ) []) 2 [(0, vA (mg Γ) 21), (1, vJ l1)] [] (t_readNumber_2b k_67 l1) := by
  unfold t_readNumber_2b
  refine s_aload_n o dX11_readNumber_2 rfl 0 rfl ?_
  refine s_aload_n o dX11_readNumber_3 rfl 0 rfl ?_
  refine r_tgf vI rfl o hT tf_at tj_at (lw_all_tbl q2509) dX11_readNumber_4 (fun v1 hv1 => ?_)
  refine s_cv (d := d + 0) (C := "LazyForgeModel") (As := [vI v1]) (st := []) o (st_sign (mg Γ) d h hT v1 hv1) mw_X11_sign rfl (Or.inl (lw_all_tbl q2940)) (lw_all_tbl qs59) (lw_all_tbl q2942) (fun t => rc_t o hT t) wt_0 rfl dX11_readNumber_7 rfl (rs := fun r => [vI r]) (fun _ => rfl) (fun v2 hv2 => ?_)
  refine s_cs (d := d + 0) (As := [vI v2]) (st := []) o (st_isDigit (mg Γ) d h v2 (hv2 _ rfl)) mw_X11_isDigit rfl (Or.inl (lw_all_tbl q2954)) (lw_all_tbl q2955) wt_0 rfl dX11_readNumber_10 rfl (rs := fun r => [vI r]) (fun _ => rfl) (fun v3 hv3 => ?_)
  refine s_if_eq (tgt := 67) o dX11_readNumber_13 (by decide) (rZ (hv3 _ rfl)) ?_ ?_
  · exact s_lo (hk_67 l1 hl1)
  · refine s_aload_n o dX11_readNumber_16 rfl 0 rfl ?_
    refine r_tgf vI rfl o hT tf_at tj_at (lw_all_tbl q2509) dX11_readNumber_17 (fun v4 hv4 => ?_)
    refine s_aload_n o dX11_readNumber_20 rfl 0 rfl ?_
    refine r_tgf vI rfl o hT tf_wordPlace tj_wordPlace (lw_all_tbl q2511) dX11_readNumber_21 (fun v5 hv5 => ?_)
    refine s_isub o dX11_readNumber_24 ?_
    refine s_bipush o dX11_readNumber_25 rfl ?_
    refine s_icmp_ge (tgt := 52) o dX11_readNumber_27 (by decide) (w32_R _) (r32 rfl) ?_ ?_
    · refine s_lload_n o dX11_readNumber_52 rfl 1 rfl ?_
      refine r_to [(0, vA (mg Γ) 21)] [0] rfl ?_
      exact st_readNumber_53 hT o k_67 hk_67 l1 hl1
    · refine s_ldc2 (n := 10) o dX11_readNumber_30 (lw_all_tbl q2964) rfl ?_
      refine s_lload_n o dX11_readNumber_33 rfl 1 rfl ?_
      refine s_lmul o dX11_readNumber_34 ?_
      refine s_aload_n o dX11_readNumber_35 rfl 0 rfl ?_
      refine s_aload_n o dX11_readNumber_36 rfl 0 rfl ?_
      refine r_tgf vI rfl o hT tf_at tj_at (lw_all_tbl q2509) dX11_readNumber_37 (fun v6 hv6 => ?_)
      refine s_cv (d := d + 0) (C := "LazyForgeModel") (As := [vI v6]) (st := [vJ (w64 (10 * l1))]) o (st_sign (mg Γ) d h hT v6 hv6) mw_X11_sign rfl (Or.inl (lw_all_tbl q2940)) (lw_all_tbl qs59) (lw_all_tbl q2942) (fun t => rc_t o hT t) (wt_J wt_0) rfl dX11_readNumber_40 rfl (rs := fun r => [vI r, vJ (w64 (10 * l1))]) (fun _ => rfl) (fun v7 hv7 => ?_)
      refine s_i2l o dX11_readNumber_43 (hv7 _ rfl) ?_
      refine s_ladd o dX11_readNumber_44 ?_
      refine s_ldc2 (n := 48) o dX11_readNumber_45 (lw_all_tbl q2965) rfl ?_
      refine s_lsub o dX11_readNumber_48 ?_
      refine s_goto (tgt := 53) o dX11_readNumber_49 (by decide) ?_
      refine r_to [(0, vA (mg Γ) 21)] [0] rfl ?_
      exact st_readNumber_53 hT o k_67 hk_67 (w64 ((w64 ((w64 (10 * l1)) + v7)) - 48)) (w64_R _)
noncomputable def t_readNumber_2 {A : Type} (k_67 : Int → Mo TS A) (l1 : Int) : Mo TS A := Loop (fun x => t_readNumber_2b k_67 x) l1
theorem st_readNumber_2 {Γ : Gm} {h : CH} {d : Nat} (hT : HT h) (o : Ok Γ "LazyForgeModel" cX11_readNumber 3 (Option.none : Option Jvm.ClassFile.FieldType) (d + 1)) {A : Type} {K : A → TS → Prop} (k_67 : Int → Mo TS A) (hk_67 : ∀ (l1 : Int), R64 l1 → Sx Γ (fun t => (h, t)) K 67 [(0, vA (mg Γ) 21), (1, vJ l1)] [] (k_67 l1)) (l1 : Int) (hl1 : R64 l1) : Sx Γ (fun t => (h, t)) K 2 [(0, vA (mg Γ) 21), (1, vJ l1)] [] (t_readNumber_2 k_67 l1) :=
  s_loop okt_readNumber_2 (lvt_readNumber_2 Γ) (fun x hx => st_readNumber_2b hT o k_67 hk_67 x hx) (x := l1) hl1
noncomputable def t_readNumber_95  (l1 : Int) (k0 : Int) : Mo TS Int :=
  bnd (ss 6 k0) fun _ =>
  bnd (ss 9 (l2i l1)) fun _ =>
  pr 0
theorem st_readNumber_95 {Γ : Gm} {h : CH} {d : Nat} (hT : HT h) (o : Ok Γ "LazyForgeModel" cX11_readNumber 3 (Option.none : Option Jvm.ClassFile.FieldType) (d + 1))   (l1 : Int) (k0 : Int) (hl1 : R64 l1) (hk0 : R32 k0) : Sx Γ (fun t => (h, t)) (fun a s => mt Γ = (0, a, ((h, s) : Wd))) 95 [(0, vA (mg Γ) 21), (1, vJ l1)] [vI k0, vA (mg Γ) 21] (t_readNumber_95 l1 k0) := by
  unfold t_readNumber_95
  refine r_tpf vI rfl o hT tf_word tj_word (lw_all_tbl q2510) dX11_readNumber_95 hk0 ty_int ?_
  refine s_aload_n o dX11_readNumber_98 rfl 0 rfl ?_
  refine s_lload_n o dX11_readNumber_99 rfl 1 rfl ?_
  refine s_l2i o dX11_readNumber_100 ?_
  refine r_tpf vI rfl o hT tf_wordNumber tj_wordNumber (lw_all_tbl q2513) dX11_readNumber_101 (l2i_R _) ty_int ?_
  exact s_vret o rfl dX11_readNumber_104 (fun _ hh => hh)
noncomputable def t_readNumber_90  (l1 : Int) : Mo TS Int :=
  t_readNumber_95 l1 1
theorem st_readNumber_90 {Γ : Gm} {h : CH} {d : Nat} (hT : HT h) (o : Ok Γ "LazyForgeModel" cX11_readNumber 3 (Option.none : Option Jvm.ClassFile.FieldType) (d + 1))   (l1 : Int) (hl1 : R64 l1) : Sx Γ (fun t => (h, t)) (fun a s => mt Γ = (0, a, ((h, s) : Wd))) 90 [(0, vA (mg Γ) 21), (1, vJ l1)] [vA (mg Γ) 21] (t_readNumber_90 l1) := by
  unfold t_readNumber_90
  refine s_iconst o dX11_readNumber_90 ?_
  refine s_goto (tgt := 95) o dX11_readNumber_91 (by decide) ?_
  exact st_readNumber_95 hT o l1 1 hl1 (r32 rfl)
noncomputable def t_readNumber : Mo TS Int :=
  t_readNumber_2
    (fun v1 => bnd (gs 5) fun v2 =>
  bnd (gs 7) fun v3 =>
  if 10 < (w32 (v2 - v3)) then
    t_readNumber_90 v1
  else
    if v1 ≤ 2147483647 then
      t_readNumber_95 v1 2
    else
      t_readNumber_90 v1) 0
theorem st_readNumber (g : gC) (d : Nat) (h : CH) (hT : HT h) : SF g yX11_readNumber (Cond.code yX11_readNumber cX11_readNumber 3 (Option.none : Option Jvm.ClassFile.FieldType)) (Option.none : Option Jvm.ClassFile.FieldType) (d + 1) [vA g 21] (fun t => (h, t)) (t_readNumber) := by
  refine SF.of (lv := [(0, vA g 21)]) (by decide) (wt_A wt_0) rfl (by simp only [la_A, la_I, la_J, la_0]) (fun Γ hg hnm o => ?_)
  subst hg
  have o : Ok Γ "LazyForgeModel" cX11_readNumber 3 (Option.none : Option Jvm.ClassFile.FieldType) (d + 1) := o
  unfold t_readNumber
  refine s_lconst (x := 0) o dX11_readNumber_0 rfl ?_
  refine r_lstore_n o dX11_readNumber_1 rfl rfl ⟨(Nat.ne_of_beq_eq_false rfl), (Nat.ne_of_beq_eq_false rfl), (fun _ => (vA_cat (mg Γ) 21)), trivial⟩ ?_
  refine r_to [(0, vA (mg Γ) 21), (1, vJ 0)] [1, 0] rfl ?_
  refine st_readNumber_2 hT o _ ?_ 0 (r64 rfl)
  · intro v1 hv1
    refine s_aload_n o dX11_readNumber_67 rfl 0 rfl ?_
    refine s_aload_n o dX11_readNumber_68 rfl 0 rfl ?_
    refine r_tgf vI rfl o hT tf_at tj_at (lw_all_tbl q2509) dX11_readNumber_69 (fun v2 hv2 => ?_)
    refine s_aload_n o dX11_readNumber_72 rfl 0 rfl ?_
    refine r_tgf vI rfl o hT tf_wordPlace tj_wordPlace (lw_all_tbl q2511) dX11_readNumber_73 (fun v3 hv3 => ?_)
    refine s_isub o dX11_readNumber_76 ?_
    refine s_bipush o dX11_readNumber_77 rfl ?_
    refine s_icmp_gt (tgt := 90) o dX11_readNumber_79 (by decide) (w32_R _) (r32 rfl) ?_ ?_
    · exact st_readNumber_90 hT o v1 hv1
    · refine s_lload_n o dX11_readNumber_82 rfl 1 rfl ?_
      refine s_ldc2 (n := 2147483647) o dX11_readNumber_83 (lw_all_tbl q2966) rfl ?_
      refine s_lcmp_le (tgt := 94) o dX11_readNumber_86 dX11_readNumber_87 (by decide) hv1 (r64 rfl) ?_ ?_
      · refine s_iconst o dX11_readNumber_94 ?_
        exact st_readNumber_95 hT o v1 2 hv1 (r32 rfl)
      · exact st_readNumber_90 hT o v1 hv1
theorem dX11_wrong_0 : decode cX11_wrong 0 = .ok (.aload_n 0, 1) := by decide +kernel
theorem dX11_wrong_1 : decode cX11_wrong 1 = .ok (.iconst 1, 1) := by decide +kernel
theorem dX11_wrong_2 : decode cX11_wrong 2 = .ok (.aload_n 0, 1) := by decide +kernel
theorem dX11_wrong_3 : decode cX11_wrong 3 = .ok (.getfield 275, 3) := by decide +kernel
theorem dX11_wrong_6 : decode cX11_wrong 6 = .ok (.invokevirtual 317, 3) := by decide +kernel
theorem dX11_wrong_9 : decode cX11_wrong 9 = .ok (.return_, 1) := by decide +kernel
theorem mw_X11_wrong : MW yX11_wrong (Cond.code yX11_wrong cX11_wrong 1 (Option.none : Option Jvm.ClassFile.FieldType)) cX11_wrong 1 (Option.none : Option Jvm.ClassFile.FieldType) 0 := ⟨rfl, ⟨(lw_all_tbl q2986), rfl, (lw_all_tbl q173)⟩, rfl, ⟨by decide, by decide⟩, by decide +kernel⟩
noncomputable def t_wrong : Mo TS Int :=
  bnd (gs 7) fun v1 =>
  bnd (t_fail 1 v1) fun _ =>
  pr 0
theorem st_wrong (g : gC) (d : Nat) (h : CH) (hT : HT h) : SF g yX11_wrong (Cond.code yX11_wrong cX11_wrong 1 (Option.none : Option Jvm.ClassFile.FieldType)) (Option.none : Option Jvm.ClassFile.FieldType) (d + 1) [vA g 21] (fun t => (h, t)) (t_wrong) := by
  refine SF.of (lv := [(0, vA g 21)]) (by decide) (wt_A wt_0) rfl (by simp only [la_A, la_I, la_J, la_0]) (fun Γ hg hnm o => ?_)
  subst hg
  have o : Ok Γ "LazyForgeModel" cX11_wrong 1 (Option.none : Option Jvm.ClassFile.FieldType) (d + 1) := o
  unfold t_wrong
  refine s_aload_n o dX11_wrong_0 rfl 0 rfl ?_
  refine s_iconst o dX11_wrong_1 ?_
  refine s_aload_n o dX11_wrong_2 rfl 0 rfl ?_
  refine r_tgf vI rfl o hT tf_wordPlace tj_wordPlace (lw_all_tbl q2511) dX11_wrong_3 (fun v1 hv1 => ?_)
  refine s_cv (d := d + 0) (C := "LazyForgeModel") (As := [vI 1, vI v1]) (st := []) o (st_fail (mg Γ) d h hT 1 v1 (r32 rfl) hv1) mw_X11_fail rfl (Or.inl (lw_all_tbl q2975)) (lw_all_tbl qs64) (lw_all_tbl q2977) (fun t => rc_t o hT t) wt_0 rfl dX11_wrong_6 rfl (rs := fun _ => []) (fun _ => rfl) (fun _ _ => ?_)
  exact s_vret o rfl dX11_wrong_9 (fun _ hh => hh)
theorem dX11_part_0 : decode cX11_part 0 = .ok (.aload_n 0, 1) := by decide +kernel
theorem dX11_part_1 : decode cX11_part 1 = .ok (.getfield 333, 3) := by decide +kernel
theorem dX11_part_4 : decode cX11_part 4 = .ok (.sipush 600, 3) := by decide +kernel
theorem dX11_part_7 : decode cX11_part 7 = .ok (.if_icmp .ne 12, 3) := by decide +kernel
theorem dX11_part_10 : decode cX11_part 10 = .ok (.aload_n 0, 1) := by decide +kernel
theorem dX11_part_11 : decode cX11_part 11 = .ok (.iconst 4, 1) := by decide +kernel
theorem dX11_part_12 : decode cX11_part 12 = .ok (.aload_n 0, 1) := by decide +kernel
theorem dX11_part_13 : decode cX11_part 13 = .ok (.getfield 275, 3) := by decide +kernel
theorem dX11_part_16 : decode cX11_part 16 = .ok (.invokevirtual 317, 3) := by decide +kernel
theorem dX11_part_19 : decode cX11_part 19 = .ok (.aload_n 0, 1) := by decide +kernel
theorem dX11_part_20 : decode cX11_part 20 = .ok (.getfield 311, 3) := by decide +kernel
theorem dX11_part_23 : decode cX11_part 23 = .ok (.ifCond .ne 23, 3) := by decide +kernel
theorem dX11_part_26 : decode cX11_part 26 = .ok (.aload_n 0, 1) := by decide +kernel
theorem dX11_part_27 : decode cX11_part 27 = .ok (.dup, 1) := by decide +kernel
theorem dX11_part_28 : decode cX11_part 28 = .ok (.getfield 333, 3) := by decide +kernel
theorem dX11_part_31 : decode cX11_part 31 = .ok (.iconst 1, 1) := by decide +kernel
theorem dX11_part_32 : decode cX11_part 32 = .ok (.iadd, 1) := by decide +kernel
theorem dX11_part_33 : decode cX11_part 33 = .ok (.putfield 333, 3) := by decide +kernel
theorem dX11_part_36 : decode cX11_part 36 = .ok (.aload_n 0, 1) := by decide +kernel
theorem dX11_part_37 : decode cX11_part 37 = .ok (.dup, 1) := by decide +kernel
theorem dX11_part_38 : decode cX11_part 38 = .ok (.getfield 336, 3) := by decide +kernel
theorem dX11_part_41 : decode cX11_part 41 = .ok (.iconst 1, 1) := by decide +kernel
theorem dX11_part_42 : decode cX11_part 42 = .ok (.iadd, 1) := by decide +kernel
theorem dX11_part_43 : decode cX11_part 43 = .ok (.putfield 336, 3) := by decide +kernel
theorem dX11_part_46 : decode cX11_part 46 = .ok (.aload_n 0, 1) := by decide +kernel
theorem dX11_part_47 : decode cX11_part 47 = .ok (.getfield 311, 3) := by decide +kernel
theorem dX11_part_50 : decode cX11_part 50 = .ok (.ifCond .ne 7, 3) := by decide +kernel
theorem dX11_part_53 : decode cX11_part 53 = .ok (.iconst 1, 1) := by decide +kernel
theorem dX11_part_54 : decode cX11_part 54 = .ok (.goto 4, 3) := by decide +kernel
theorem dX11_part_57 : decode cX11_part 57 = .ok (.iconst 0, 1) := by decide +kernel
theorem dX11_part_58 : decode cX11_part 58 = .ok (.ireturn, 1) := by decide +kernel
theorem mw_X11_part : MW yX11_part (Cond.code yX11_part cX11_part 1 (Option.some Jvm.ClassFile.FieldType.boolean)) cX11_part 1 (Option.some Jvm.ClassFile.FieldType.boolean) 0 := ⟨rfl, ⟨(lw_all_tbl q3010), rfl, (lw_all_tbl q173)⟩, rfl, ⟨by decide, by decide⟩, by decide +kernel⟩
noncomputable def t_part_46  : Mo TS Int :=
  bnd (gs 10) fun v1 =>
  if ¬ v1 = 0 then
    pr 0
  else
    pr 1
theorem st_part_46 {Γ : Gm} {h : CH} {d : Nat} (hT : HT h) (o : Ok Γ "LazyForgeModel" cX11_part 1 (Option.some Jvm.ClassFile.FieldType.boolean) (d + 1))   : Sx Γ (fun t => (h, t)) (fun a s => mt Γ = (0, a, ((h, s) : Wd))) 46 [(0, vA (mg Γ) 21)] [] (t_part_46) := by
  unfold t_part_46
  refine s_aload_n o dX11_part_46 rfl 0 rfl ?_
  refine r_tgf vI rfl o hT tf_fault tj_fault (lw_all_tbl q2514) dX11_part_47 (fun v1 hv1 => ?_)
  refine s_if_ne (tgt := 57) o dX11_part_50 (by decide) hv1 ?_ ?_
  · refine s_iconst o dX11_part_57 ?_
    exact s_iret o rfl i_boolean (Or.inl rfl) dX11_part_58 (fun _ hh => hh)
  · refine s_iconst o dX11_part_53 ?_
    refine s_goto (tgt := 58) o dX11_part_54 (by decide) ?_
    exact s_iret o rfl i_boolean (Or.inr rfl) dX11_part_58 (fun _ hh => hh)
noncomputable def t_part_19  : Mo TS Int :=
  bnd (gs 10) fun v1 =>
  if ¬ v1 = 0 then
    t_part_46
  else
    bnd (gs 25) fun v2 =>
    bnd (ss 25 (w32 (v2 + 1))) fun _ =>
    bnd (gs 26) fun v3 =>
    bnd (ss 26 (w32 (v3 + 1))) fun _ =>
    t_part_46
theorem st_part_19 {Γ : Gm} {h : CH} {d : Nat} (hT : HT h) (o : Ok Γ "LazyForgeModel" cX11_part 1 (Option.some Jvm.ClassFile.FieldType.boolean) (d + 1))   : Sx Γ (fun t => (h, t)) (fun a s => mt Γ = (0, a, ((h, s) : Wd))) 19 [(0, vA (mg Γ) 21)] [] (t_part_19) := by
  unfold t_part_19
  refine s_aload_n o dX11_part_19 rfl 0 rfl ?_
  refine r_tgf vI rfl o hT tf_fault tj_fault (lw_all_tbl q2514) dX11_part_20 (fun v1 hv1 => ?_)
  refine s_if_ne (tgt := 46) o dX11_part_23 (by decide) hv1 ?_ ?_
  · exact st_part_46 hT o
  · refine s_aload_n o dX11_part_26 rfl 0 rfl ?_
    refine s_dup o dX11_part_27 (vA_cat (mg Γ) 21) ?_
    refine r_tgf vI rfl o hT tf_parts tj_parts (lw_all_tbl q2529) dX11_part_28 (fun v2 hv2 => ?_)
    refine s_iconst o dX11_part_31 ?_
    refine s_iadd o dX11_part_32 ?_
    refine r_tpf vI rfl o hT tf_parts tj_parts (lw_all_tbl q2529) dX11_part_33 (w32_R _) ty_int ?_
    refine s_aload_n o dX11_part_36 rfl 0 rfl ?_
    refine s_dup o dX11_part_37 (vA_cat (mg Γ) 21) ?_
    refine r_tgf vI rfl o hT tf_allParts tj_allParts (lw_all_tbl q2530) dX11_part_38 (fun v3 hv3 => ?_)
    refine s_iconst o dX11_part_41 ?_
    refine s_iadd o dX11_part_42 ?_
    refine r_tpf vI rfl o hT tf_allParts tj_allParts (lw_all_tbl q2530) dX11_part_43 (w32_R _) ty_int ?_
    exact st_part_46 hT o
noncomputable def t_part : Mo TS Int :=
  bnd (gs 25) fun v1 =>
  if ¬ v1 = 600 then
    t_part_19
  else
    bnd (gs 7) fun v2 =>
    bnd (t_fail 4 v2) fun _ =>
    t_part_19
theorem st_part (g : gC) (d : Nat) (h : CH) (hT : HT h) : SF g yX11_part (Cond.code yX11_part cX11_part 1 (Option.some Jvm.ClassFile.FieldType.boolean)) (Option.some Jvm.ClassFile.FieldType.boolean) (d + 1) [vA g 21] (fun t => (h, t)) (t_part) := by
  refine SF.of (lv := [(0, vA g 21)]) (by decide) (wt_A wt_0) rfl (by simp only [la_A, la_I, la_J, la_0]) (fun Γ hg hnm o => ?_)
  subst hg
  have o : Ok Γ "LazyForgeModel" cX11_part 1 (Option.some Jvm.ClassFile.FieldType.boolean) (d + 1) := o
  unfold t_part
  refine s_aload_n o dX11_part_0 rfl 0 rfl ?_
  refine r_tgf vI rfl o hT tf_parts tj_parts (lw_all_tbl q2529) dX11_part_1 (fun v1 hv1 => ?_)
  refine s_sipush o dX11_part_4 rfl ?_
  refine s_icmp_ne (tgt := 19) o dX11_part_7 (by decide) hv1 (r32 rfl) ?_ ?_
  · exact st_part_19 hT o
  · refine s_aload_n o dX11_part_10 rfl 0 rfl ?_
    refine s_iconst o dX11_part_11 ?_
    refine s_aload_n o dX11_part_12 rfl 0 rfl ?_
    refine r_tgf vI rfl o hT tf_wordPlace tj_wordPlace (lw_all_tbl q2511) dX11_part_13 (fun v2 hv2 => ?_)
    refine s_cv (d := d + 0) (C := "LazyForgeModel") (As := [vI 4, vI v2]) (st := []) o (st_fail (mg Γ) d h hT 4 v2 (r32 rfl) hv2) mw_X11_fail rfl (Or.inl (lw_all_tbl q2975)) (lw_all_tbl qs64) (lw_all_tbl q2977) (fun t => rc_t o hT t) wt_0 rfl dX11_part_16 rfl (rs := fun _ => []) (fun _ => rfl) (fun _ _ => ?_)
    exact st_part_19 hT o
theorem dX11_isAtom_0 : decode cX11_isAtom 0 = .ok (.aload_n 0, 1) := by decide +kernel
theorem dX11_isAtom_1 : decode cX11_isAtom 1 = .ok (.getfield 286, 3) := by decide +kernel
theorem dX11_isAtom_4 : decode cX11_isAtom 4 = .ok (.iconst 3, 1) := by decide +kernel
theorem dX11_isAtom_5 : decode cX11_isAtom 5 = .ok (.if_icmp .eq 37, 3) := by decide +kernel
theorem dX11_isAtom_8 : decode cX11_isAtom 8 = .ok (.aload_n 0, 1) := by decide +kernel
theorem dX11_isAtom_9 : decode cX11_isAtom 9 = .ok (.getfield 286, 3) := by decide +kernel
theorem dX11_isAtom_12 : decode cX11_isAtom 12 = .ok (.iconst 4, 1) := by decide +kernel
theorem dX11_isAtom_13 : decode cX11_isAtom 13 = .ok (.if_icmp .eq 29, 3) := by decide +kernel
theorem dX11_isAtom_16 : decode cX11_isAtom 16 = .ok (.aload_n 0, 1) := by decide +kernel
theorem dX11_isAtom_17 : decode cX11_isAtom 17 = .ok (.getfield 286, 3) := by decide +kernel
theorem dX11_isAtom_20 : decode cX11_isAtom 20 = .ok (.iconst 2, 1) := by decide +kernel
theorem dX11_isAtom_21 : decode cX11_isAtom 21 = .ok (.if_icmp .eq 21, 3) := by decide +kernel
theorem dX11_isAtom_24 : decode cX11_isAtom 24 = .ok (.aload_n 0, 1) := by decide +kernel
theorem dX11_isAtom_25 : decode cX11_isAtom 25 = .ok (.getfield 286, 3) := by decide +kernel
theorem dX11_isAtom_28 : decode cX11_isAtom 28 = .ok (.bipush 15, 2) := by decide +kernel
theorem dX11_isAtom_30 : decode cX11_isAtom 30 = .ok (.if_icmp .eq 12, 3) := by decide +kernel
theorem dX11_isAtom_33 : decode cX11_isAtom 33 = .ok (.aload_n 0, 1) := by decide +kernel
theorem dX11_isAtom_34 : decode cX11_isAtom 34 = .ok (.bipush 40, 2) := by decide +kernel
theorem dX11_isAtom_36 : decode cX11_isAtom 36 = .ok (.invokevirtual 383, 3) := by decide +kernel
theorem dX11_isAtom_39 : decode cX11_isAtom 39 = .ok (.ifCond .eq 7, 3) := by decide +kernel
theorem dX11_isAtom_42 : decode cX11_isAtom 42 = .ok (.iconst 1, 1) := by decide +kernel
theorem dX11_isAtom_43 : decode cX11_isAtom 43 = .ok (.goto 4, 3) := by decide +kernel
theorem dX11_isAtom_46 : decode cX11_isAtom 46 = .ok (.iconst 0, 1) := by decide +kernel
theorem dX11_isAtom_47 : decode cX11_isAtom 47 = .ok (.ireturn, 1) := by decide +kernel
theorem mw_X11_isAtom : MW yX11_isAtom (Cond.code yX11_isAtom cX11_isAtom 1 (Option.some Jvm.ClassFile.FieldType.boolean)) cX11_isAtom 1 (Option.some Jvm.ClassFile.FieldType.boolean) 0 := ⟨rfl, ⟨(lw_all_tbl q3062), rfl, (lw_all_tbl q173)⟩, rfl, ⟨by decide, by decide⟩, by decide +kernel⟩
noncomputable def t_isAtom_42  : Mo TS Int :=
  pr 1
theorem st_isAtom_42 {Γ : Gm} {h : CH} {d : Nat} (hT : HT h) (o : Ok Γ "LazyForgeModel" cX11_isAtom 1 (Option.some Jvm.ClassFile.FieldType.boolean) (d + 1))   : Sx Γ (fun t => (h, t)) (fun a s => mt Γ = (0, a, ((h, s) : Wd))) 42 [] [] (t_isAtom_42) := by
  unfold t_isAtom_42
  refine s_iconst o dX11_isAtom_42 ?_
  refine s_goto (tgt := 47) o dX11_isAtom_43 (by decide) ?_
  exact s_iret o rfl i_boolean (Or.inr rfl) dX11_isAtom_47 (fun _ hh => hh)
noncomputable def t_isAtom : Mo TS Int :=
  bnd (gs 6) fun v1 =>
  if v1 = 3 then
    t_isAtom_42
  else
    bnd (gs 6) fun v2 =>
    if v2 = 4 then
      t_isAtom_42
    else
      bnd (gs 6) fun v3 =>
      if v3 = 2 then
        t_isAtom_42
      else
        bnd (gs 6) fun v4 =>
        if v4 = 15 then
          t_isAtom_42
        else
          bnd (t_isSign 40) fun v5 =>
          if v5 = 0 then
            pr 0
          else
            t_isAtom_42
theorem st_isAtom (g : gC) (d : Nat) (h : CH) (hT : HT h) : SF g yX11_isAtom (Cond.code yX11_isAtom cX11_isAtom 1 (Option.some Jvm.ClassFile.FieldType.boolean)) (Option.some Jvm.ClassFile.FieldType.boolean) (d + 1) [vA g 21] (fun t => (h, t)) (t_isAtom) := by
  refine SF.of (lv := [(0, vA g 21)]) (by decide) (wt_A wt_0) rfl (by simp only [la_A, la_I, la_J, la_0]) (fun Γ hg hnm o => ?_)
  subst hg
  have o : Ok Γ "LazyForgeModel" cX11_isAtom 1 (Option.some Jvm.ClassFile.FieldType.boolean) (d + 1) := o
  unfold t_isAtom
  refine s_aload_n o dX11_isAtom_0 rfl 0 rfl ?_
  refine r_tgf vI rfl o hT tf_word tj_word (lw_all_tbl q2510) dX11_isAtom_1 (fun v1 hv1 => ?_)
  refine s_iconst o dX11_isAtom_4 ?_
  refine s_icmp_eq (tgt := 42) o dX11_isAtom_5 (by decide) hv1 (r32 rfl) ?_ ?_
  · refine r_to [] [] rfl ?_
    exact st_isAtom_42 hT o
  · refine s_aload_n o dX11_isAtom_8 rfl 0 rfl ?_
    refine r_tgf vI rfl o hT tf_word tj_word (lw_all_tbl q2510) dX11_isAtom_9 (fun v2 hv2 => ?_)
    refine s_iconst o dX11_isAtom_12 ?_
    refine s_icmp_eq (tgt := 42) o dX11_isAtom_13 (by decide) hv2 (r32 rfl) ?_ ?_
    · refine r_to [] [] rfl ?_
      exact st_isAtom_42 hT o
    · refine s_aload_n o dX11_isAtom_16 rfl 0 rfl ?_
      refine r_tgf vI rfl o hT tf_word tj_word (lw_all_tbl q2510) dX11_isAtom_17 (fun v3 hv3 => ?_)
      refine s_iconst o dX11_isAtom_20 ?_
      refine s_icmp_eq (tgt := 42) o dX11_isAtom_21 (by decide) hv3 (r32 rfl) ?_ ?_
      · refine r_to [] [] rfl ?_
        exact st_isAtom_42 hT o
      · refine s_aload_n o dX11_isAtom_24 rfl 0 rfl ?_
        refine r_tgf vI rfl o hT tf_word tj_word (lw_all_tbl q2510) dX11_isAtom_25 (fun v4 hv4 => ?_)
        refine s_bipush o dX11_isAtom_28 rfl ?_
        refine s_icmp_eq (tgt := 42) o dX11_isAtom_30 (by decide) hv4 (r32 rfl) ?_ ?_
        · refine r_to [] [] rfl ?_
          exact st_isAtom_42 hT o
        · refine s_aload_n o dX11_isAtom_33 rfl 0 rfl ?_
          refine s_bipush o dX11_isAtom_34 rfl ?_
          refine s_cv (d := d + 0) (C := "LazyForgeModel") (As := [vI 40]) (st := []) o (st_isSign (mg Γ) d h hT 40 (r32 rfl)) mw_X11_isSign rfl (Or.inl (lw_all_tbl q2987)) (lw_all_tbl qs67) (lw_all_tbl q2989) (fun t => rc_t o hT t) wt_0 rfl dX11_isAtom_36 rfl (rs := fun r => [vI r]) (fun _ => rfl) (fun v5 hv5 => ?_)
          refine s_if_eq (tgt := 46) o dX11_isAtom_39 (by decide) (rZ (hv5 _ rfl)) ?_ ?_
          · refine s_iconst o dX11_isAtom_46 ?_
            exact s_iret o rfl i_boolean (Or.inl rfl) dX11_isAtom_47 (fun _ hh => hh)
          · refine r_to [] [] rfl ?_
            exact st_isAtom_42 hT o
theorem dX11_reduce_0 : decode cX11_reduce 0 = .ok (.aload_n 0, 1) := by decide +kernel
theorem dX11_reduce_1 : decode cX11_reduce 1 = .ok (.getfield 342, 3) := by decide +kernel
theorem dX11_reduce_4 : decode cX11_reduce 4 = .ok (.ifCond .le 82, 3) := by decide +kernel
theorem dX11_reduce_7 : decode cX11_reduce 7 = .ok (.aload_n 0, 1) := by decide +kernel
theorem dX11_reduce_8 : decode cX11_reduce 8 = .ok (.getfield 65, 3) := by decide +kernel
theorem dX11_reduce_11 : decode cX11_reduce 11 = .ok (.aload_n 0, 1) := by decide +kernel
theorem dX11_reduce_12 : decode cX11_reduce 12 = .ok (.getfield 342, 3) := by decide +kernel
theorem dX11_reduce_15 : decode cX11_reduce 15 = .ok (.iconst 1, 1) := by decide +kernel
theorem dX11_reduce_16 : decode cX11_reduce 16 = .ok (.isub, 1) := by decide +kernel
theorem dX11_reduce_17 : decode cX11_reduce 17 = .ok (.iaload, 1) := by decide +kernel
theorem dX11_reduce_18 : decode cX11_reduce 18 = .ok (.bipush 7, 2) := by decide +kernel
theorem dX11_reduce_20 : decode cX11_reduce 20 = .ok (.if_icmp .ne 66, 3) := by decide +kernel
theorem dX11_reduce_23 : decode cX11_reduce 23 = .ok (.aload_n 0, 1) := by decide +kernel
theorem dX11_reduce_24 : decode cX11_reduce 24 = .ok (.getfield 71, 3) := by decide +kernel
theorem dX11_reduce_27 : decode cX11_reduce 27 = .ok (.aload_n 0, 1) := by decide +kernel
theorem dX11_reduce_28 : decode cX11_reduce 28 = .ok (.getfield 342, 3) := by decide +kernel
theorem dX11_reduce_31 : decode cX11_reduce 31 = .ok (.iconst 1, 1) := by decide +kernel
theorem dX11_reduce_32 : decode cX11_reduce 32 = .ok (.isub, 1) := by decide +kernel
theorem dX11_reduce_33 : decode cX11_reduce 33 = .ok (.iaload, 1) := by decide +kernel
theorem dX11_reduce_34 : decode cX11_reduce 34 = .ok (.iload_n 1, 1) := by decide +kernel
theorem dX11_reduce_35 : decode cX11_reduce 35 = .ok (.if_icmp .lt 51, 3) := by decide +kernel
theorem dX11_reduce_38 : decode cX11_reduce 38 = .ok (.aload_n 0, 1) := by decide +kernel
theorem dX11_reduce_39 : decode cX11_reduce 39 = .ok (.dup, 1) := by decide +kernel
theorem dX11_reduce_40 : decode cX11_reduce 40 = .ok (.getfield 342, 3) := by decide +kernel
theorem dX11_reduce_43 : decode cX11_reduce 43 = .ok (.iconst 1, 1) := by decide +kernel
theorem dX11_reduce_44 : decode cX11_reduce 44 = .ok (.isub, 1) := by decide +kernel
theorem dX11_reduce_45 : decode cX11_reduce 45 = .ok (.putfield 342, 3) := by decide +kernel
theorem dX11_reduce_48 : decode cX11_reduce 48 = .ok (.aload_n 0, 1) := by decide +kernel
theorem dX11_reduce_49 : decode cX11_reduce 49 = .ok (.getfield 68, 3) := by decide +kernel
theorem dX11_reduce_52 : decode cX11_reduce 52 = .ok (.aload_n 0, 1) := by decide +kernel
theorem dX11_reduce_53 : decode cX11_reduce 53 = .ok (.getfield 342, 3) := by decide +kernel
theorem dX11_reduce_56 : decode cX11_reduce 56 = .ok (.iaload, 1) := by decide +kernel
theorem dX11_reduce_57 : decode cX11_reduce 57 = .ok (.istore_n 2, 1) := by decide +kernel
theorem dX11_reduce_58 : decode cX11_reduce 58 = .ok (.aload_n 0, 1) := by decide +kernel
theorem dX11_reduce_59 : decode cX11_reduce 59 = .ok (.getfield 22, 3) := by decide +kernel
theorem dX11_reduce_62 : decode cX11_reduce 62 = .ok (.iload_n 2, 1) := by decide +kernel
theorem dX11_reduce_63 : decode cX11_reduce 63 = .ok (.aload_n 0, 1) := by decide +kernel
theorem dX11_reduce_64 : decode cX11_reduce 64 = .ok (.invokevirtual 420, 3) := by decide +kernel
theorem dX11_reduce_67 : decode cX11_reduce 67 = .ok (.iastore, 1) := by decide +kernel
theorem dX11_reduce_68 : decode cX11_reduce 68 = .ok (.aload_n 0, 1) := by decide +kernel
theorem dX11_reduce_69 : decode cX11_reduce 69 = .ok (.getfield 19, 3) := by decide +kernel
theorem dX11_reduce_72 : decode cX11_reduce 72 = .ok (.iload_n 2, 1) := by decide +kernel
theorem dX11_reduce_73 : decode cX11_reduce 73 = .ok (.aload_n 0, 1) := by decide +kernel
theorem dX11_reduce_74 : decode cX11_reduce 74 = .ok (.invokevirtual 420, 3) := by decide +kernel
theorem dX11_reduce_77 : decode cX11_reduce 77 = .ok (.iastore, 1) := by decide +kernel
theorem dX11_reduce_78 : decode cX11_reduce 78 = .ok (.aload_n 0, 1) := by decide +kernel
theorem dX11_reduce_79 : decode cX11_reduce 79 = .ok (.iload_n 2, 1) := by decide +kernel
theorem dX11_reduce_80 : decode cX11_reduce 80 = .ok (.invokevirtual 402, 3) := by decide +kernel
theorem dX11_reduce_83 : decode cX11_reduce 83 = .ok (.goto (-83), 3) := by decide +kernel
theorem dX11_reduce_86 : decode cX11_reduce 86 = .ok (.return_, 1) := by decide +kernel
theorem mw_X11_reduce : MW yX11_reduce (Cond.code yX11_reduce cX11_reduce 3 (Option.none : Option Jvm.ClassFile.FieldType)) cX11_reduce 3 (Option.none : Option Jvm.ClassFile.FieldType) 1 := ⟨rfl, ⟨(lw_all_tbl q3089), rfl, (lw_all_tbl q173)⟩, rfl, ⟨by decide, by decide⟩, by decide +kernel⟩
abbrev okt_reduce_0 (x : Int) : Prop := R32 x
abbrev lvt_reduce_0 (Γ : Gm) (x : Int) : List (Nat × Value) := [(0, vA (mg Γ) 21), (1, vI x)]
noncomputable def t_reduce_0b {A : Type} (k_86 : Mo TS A) (l1 : Int) : Mo TS ((Int) ⊕ A) :=
  bnd (gs 35) fun v1 =>
  if v1 ≤ 0 then
    lo k_86
  else
    bnd (gs 35) fun v2 =>
    bnd (rd 36 3200 (w32 (v2 - 1))) fun v3 =>
    if ¬ v3 = 7 then
      lo k_86
    else
      bnd (gs 35) fun v4 =>
      bnd (rd 38 3200 (w32 (v4 - 1))) fun v5 =>
      if v5 < l1 then
        lo k_86
      else
        bnd (gs 35) fun v6 =>
        bnd (ss 35 (w32 (v6 - 1))) fun _ =>
        bnd (gs 35) fun v7 =>
        bnd (rd 37 3200 v7) fun v8 =>
        bnd (t_taken) fun v9 =>
        bnd (wr 15 3200 v8 v9) fun _ =>
        bnd (t_taken) fun v10 =>
        bnd (wr 14 3200 v8 v10) fun _ =>
        bnd (t_operand v8) fun _ =>
        pr (.inl l1)
theorem st_reduce_0b {Γ : Gm} {h : CH} {d : Nat} (hT : HT h) (o : Ok Γ "LazyForgeModel" cX11_reduce 3 (Option.none : Option Jvm.ClassFile.FieldType) (d + 1)) {A : Type} {K : A → TS → Prop} (k_86 : Mo TS A) (hk_86 : Sx Γ (fun t => (h, t)) K 86 [] [] (k_86)) (l1 : Int) (hl1 : R32 l1) : Sx Γ (fun t => (h, t)) (KL Γ (fun t => (h, t)) okt_reduce_0 K 0 (lvt_reduce_0 Γ) []) 0 [(0, vA (mg Γ) 21), (1, vI l1)] [] (t_reduce_0b k_86 l1) := by
  unfold t_reduce_0b
  refine s_aload_n o dX11_reduce_0 rfl 0 rfl ?_
  refine r_tgf vI rfl o hT tf_piled tj_piled (lw_all_tbl q2539) dX11_reduce_1 (fun v1 hv1 => ?_)
  refine s_if_le (tgt := 86) o dX11_reduce_4 (by decide) hv1 ?_ ?_
  · refine r_to [] [] rfl ?_
    exact s_lo hk_86
  · refine s_aload_n o dX11_reduce_7 rfl 0 rfl ?_
    refine s_tga (x := 40) o hT tf_pileKinds ta_pileKinds (lw_all_tbl q2540) dX11_reduce_8 ?_
    refine s_aload_n o dX11_reduce_11 rfl 0 rfl ?_
    refine r_tgf vI rfl o hT tf_piled tj_piled (lw_all_tbl q2539) dX11_reduce_12 (fun v2 hv2 => ?_)
    refine s_iconst o dX11_reduce_15 ?_
    refine s_isub o dX11_reduce_16 ?_
    refine r_tiald o hT tr_pileKinds (w32_R _) dX11_reduce_17 (fun v3 hv3 => ?_)
    refine s_bipush o dX11_reduce_18 rfl ?_
    refine s_icmp_ne (tgt := 86) o dX11_reduce_20 (by decide) hv3 (r32 rfl) ?_ ?_
    · refine r_to [] [] rfl ?_
      exact s_lo hk_86
    · refine s_aload_n o dX11_reduce_23 rfl 0 rfl ?_
      refine s_tga (x := 42) o hT tf_pileRanks ta_pileRanks (lw_all_tbl q2542) dX11_reduce_24 ?_
      refine s_aload_n o dX11_reduce_27 rfl 0 rfl ?_
      refine r_tgf vI rfl o hT tf_piled tj_piled (lw_all_tbl q2539) dX11_reduce_28 (fun v4 hv4 => ?_)
      refine s_iconst o dX11_reduce_31 ?_
      refine s_isub o dX11_reduce_32 ?_
      refine r_tiald o hT tr_pileRanks (w32_R _) dX11_reduce_33 (fun v5 hv5 => ?_)
      refine s_iload_n o dX11_reduce_34 rfl 1 rfl ?_
      refine s_icmp_lt (tgt := 86) o dX11_reduce_35 (by decide) hv5 hl1 ?_ ?_
      · refine r_to [] [] rfl ?_
        exact s_lo hk_86
      · refine s_aload_n o dX11_reduce_38 rfl 0 rfl ?_
        refine s_dup o dX11_reduce_39 (vA_cat (mg Γ) 21) ?_
        refine r_tgf vI rfl o hT tf_piled tj_piled (lw_all_tbl q2539) dX11_reduce_40 (fun v6 hv6 => ?_)
        refine s_iconst o dX11_reduce_43 ?_
        refine s_isub o dX11_reduce_44 ?_
        refine r_tpf vI rfl o hT tf_piled tj_piled (lw_all_tbl q2539) dX11_reduce_45 (w32_R _) ty_int ?_
        refine s_aload_n o dX11_reduce_48 rfl 0 rfl ?_
        refine s_tga (x := 41) o hT tf_pileNodes ta_pileNodes (lw_all_tbl q2541) dX11_reduce_49 ?_
        refine s_aload_n o dX11_reduce_52 rfl 0 rfl ?_
        refine r_tgf vI rfl o hT tf_piled tj_piled (lw_all_tbl q2539) dX11_reduce_53 (fun v7 hv7 => ?_)
        refine r_tiald o hT tr_pileNodes hv7 dX11_reduce_56 (fun v8 hv8 => ?_)
        refine r_istore_n o dX11_reduce_57 rfl rfl ⟨(Nat.ne_of_beq_eq_false rfl), (fun _ => (vA_cat (mg Γ) 21)), ⟨(Nat.ne_of_beq_eq_false rfl), (fun _ => rfl), trivial⟩⟩ ?_
        refine s_aload_n o dX11_reduce_58 rfl 1 rfl ?_
        refine s_tga (x := 26) o hT tf_seconds ta_seconds (lw_all_tbl q2519) dX11_reduce_59 ?_
        refine s_iload_n o dX11_reduce_62 rfl 0 rfl ?_
        refine s_aload_n o dX11_reduce_63 rfl 1 rfl ?_
        refine s_cv (d := d + 0) (C := "LazyForgeModel") (As := []) (st := [vI v8, vA (mg Γ) 26]) o (st_taken (mg Γ) d h hT) mw_X11_taken rfl (Or.inl (lw_all_tbl q3075)) (lw_all_tbl qs89) (lw_all_tbl q3077) (fun t => rc_t o hT t) (wt_I (wt_A wt_0)) rfl dX11_reduce_64 rfl (rs := fun r => [vI r, vI v8, vA (mg Γ) 26]) (fun _ => rfl) (fun v9 hv9 => ?_)
        refine r_tiast o hT tr_seconds hv8 (hv9 _ rfl) dX11_reduce_67 ?_
        refine s_aload_n o dX11_reduce_68 rfl 1 rfl ?_
        refine s_tga (x := 25) o hT tf_firsts ta_firsts (lw_all_tbl q2518) dX11_reduce_69 ?_
        refine s_iload_n o dX11_reduce_72 rfl 0 rfl ?_
        refine s_aload_n o dX11_reduce_73 rfl 1 rfl ?_
        refine s_cv (d := d + 0) (C := "LazyForgeModel") (As := []) (st := [vI v8, vA (mg Γ) 25]) o (st_taken (mg Γ) d h hT) mw_X11_taken rfl (Or.inl (lw_all_tbl q3075)) (lw_all_tbl qs89) (lw_all_tbl q3077) (fun t => rc_t o hT t) (wt_I (wt_A wt_0)) rfl dX11_reduce_74 rfl (rs := fun r => [vI r, vI v8, vA (mg Γ) 25]) (fun _ => rfl) (fun v10 hv10 => ?_)
        refine r_tiast o hT tr_firsts hv8 (hv10 _ rfl) dX11_reduce_77 ?_
        refine s_aload_n o dX11_reduce_78 rfl 1 rfl ?_
        refine s_iload_n o dX11_reduce_79 rfl 0 rfl ?_
        refine s_cv (d := d + 0) (C := "LazyForgeModel") (As := [vI v8]) (st := []) o (st_operand (mg Γ) d h hT v8 hv8) mw_X11_operand rfl (Or.inl (lw_all_tbl q3067)) (lw_all_tbl qs87) (lw_all_tbl q3069) (fun t => rc_t o hT t) wt_0 rfl dX11_reduce_80 rfl (rs := fun _ => []) (fun _ => rfl) (fun _ _ => ?_)
        refine s_goto (tgt := 0) o dX11_reduce_83 (by decide) ?_
        refine r_to [(0, vA (mg Γ) 21), (1, vI l1)] [1, 2] rfl ?_
        exact s_back hl1 rfl
noncomputable def t_reduce_0 {A : Type} (k_86 : Mo TS A) (l1 : Int) : Mo TS A := Loop (fun x => t_reduce_0b k_86 x) l1
theorem st_reduce_0 {Γ : Gm} {h : CH} {d : Nat} (hT : HT h) (o : Ok Γ "LazyForgeModel" cX11_reduce 3 (Option.none : Option Jvm.ClassFile.FieldType) (d + 1)) {A : Type} {K : A → TS → Prop} (k_86 : Mo TS A) (hk_86 : Sx Γ (fun t => (h, t)) K 86 [] [] (k_86)) (l1 : Int) (hl1 : R32 l1) : Sx Γ (fun t => (h, t)) K 0 [(0, vA (mg Γ) 21), (1, vI l1)] [] (t_reduce_0 k_86 l1) :=
  s_loop okt_reduce_0 (lvt_reduce_0 Γ) (fun x hx => st_reduce_0b hT o k_86 hk_86 x hx) (x := l1) hl1
noncomputable def t_reduce (l1 : Int) : Mo TS Int :=
  t_reduce_0
    (pr 0) l1
theorem st_reduce (g : gC) (d : Nat) (h : CH) (hT : HT h) (l1 : Int) (hl1 : R32 l1) : SF g yX11_reduce (Cond.code yX11_reduce cX11_reduce 3 (Option.none : Option Jvm.ClassFile.FieldType)) (Option.none : Option Jvm.ClassFile.FieldType) (d + 1) [vA g 21, vI l1] (fun t => (h, t)) (t_reduce l1) := by
  refine SF.of (lv := [(0, vA g 21), (1, vI l1)]) (by decide) (wt_A (wt_I wt_0)) rfl (by simp only [la_A, la_I, la_J, la_0]) (fun Γ hg hnm o => ?_)
  subst hg
  have o : Ok Γ "LazyForgeModel" cX11_reduce 3 (Option.none : Option Jvm.ClassFile.FieldType) (d + 1) := o
  unfold t_reduce
  refine st_reduce_0 hT o _ ?_ l1 hl1
  · exact s_vret o rfl dX11_reduce_86 (fun _ hh => hh)
theorem dX11_close_0 : decode cX11_close 0 = .ok (.aload_n 0, 1) := by decide +kernel
theorem dX11_close_1 : decode cX11_close 1 = .ok (.dup, 1) := by decide +kernel
theorem dX11_close_2 : decode cX11_close 2 = .ok (.getfield 342, 3) := by decide +kernel
theorem dX11_close_5 : decode cX11_close 5 = .ok (.iconst 1, 1) := by decide +kernel
theorem dX11_close_6 : decode cX11_close 6 = .ok (.isub, 1) := by decide +kernel
theorem dX11_close_7 : decode cX11_close 7 = .ok (.putfield 342, 3) := by decide +kernel
theorem dX11_close_10 : decode cX11_close 10 = .ok (.aload_n 0, 1) := by decide +kernel
theorem dX11_close_11 : decode cX11_close 11 = .ok (.dup, 1) := by decide +kernel
theorem dX11_close_12 : decode cX11_close 12 = .ok (.getfield 339, 3) := by decide +kernel
theorem dX11_close_15 : decode cX11_close 15 = .ok (.iconst 1, 1) := by decide +kernel
theorem dX11_close_16 : decode cX11_close 16 = .ok (.isub, 1) := by decide +kernel
theorem dX11_close_17 : decode cX11_close 17 = .ok (.putfield 339, 3) := by decide +kernel
theorem dX11_close_20 : decode cX11_close 20 = .ok (.aload_n 0, 1) := by decide +kernel
theorem dX11_close_21 : decode cX11_close 21 = .ok (.iload_n 1, 1) := by decide +kernel
theorem dX11_close_22 : decode cX11_close 22 = .ok (.invokevirtual 402, 3) := by decide +kernel
theorem dX11_close_25 : decode cX11_close 25 = .ok (.aload_n 0, 1) := by decide +kernel
theorem dX11_close_26 : decode cX11_close 26 = .ok (.iconst 1, 1) := by decide +kernel
theorem dX11_close_27 : decode cX11_close 27 = .ok (.putfield 405, 3) := by decide +kernel
theorem dX11_close_30 : decode cX11_close 30 = .ok (.return_, 1) := by decide +kernel
theorem mw_X11_close : MW yX11_close (Cond.code yX11_close cX11_close 2 (Option.none : Option Jvm.ClassFile.FieldType)) cX11_close 2 (Option.none : Option Jvm.ClassFile.FieldType) 1 := ⟨rfl, ⟨(lw_all_tbl q3101), rfl, (lw_all_tbl q173)⟩, rfl, ⟨by decide, by decide⟩, by decide +kernel⟩
noncomputable def t_close (l1 : Int) : Mo TS Int :=
  bnd (gs 35) fun v1 =>
  bnd (ss 35 (w32 (v1 - 1))) fun _ =>
  bnd (gs 34) fun v2 =>
  bnd (ss 34 (w32 (v2 - 1))) fun _ =>
  bnd (t_operand l1) fun _ =>
  bnd (ss 45 1) fun _ =>
  pr 0
theorem st_close (g : gC) (d : Nat) (h : CH) (hT : HT h) (l1 : Int) (hl1 : R32 l1) : SF g yX11_close (Cond.code yX11_close cX11_close 2 (Option.none : Option Jvm.ClassFile.FieldType)) (Option.none : Option Jvm.ClassFile.FieldType) (d + 1) [vA g 21, vI l1] (fun t => (h, t)) (t_close l1) := by
  refine SF.of (lv := [(0, vA g 21), (1, vI l1)]) (by decide) (wt_A (wt_I wt_0)) rfl (by simp only [la_A, la_I, la_J, la_0]) (fun Γ hg hnm o => ?_)
  subst hg
  have o : Ok Γ "LazyForgeModel" cX11_close 2 (Option.none : Option Jvm.ClassFile.FieldType) (d + 1) := o
  unfold t_close
  refine s_aload_n o dX11_close_0 rfl 0 rfl ?_
  refine s_dup o dX11_close_1 (vA_cat (mg Γ) 21) ?_
  refine r_tgf vI rfl o hT tf_piled tj_piled (lw_all_tbl q2539) dX11_close_2 (fun v1 hv1 => ?_)
  refine s_iconst o dX11_close_5 ?_
  refine s_isub o dX11_close_6 ?_
  refine r_tpf vI rfl o hT tf_piled tj_piled (lw_all_tbl q2539) dX11_close_7 (w32_R _) ty_int ?_
  refine s_aload_n o dX11_close_10 rfl 0 rfl ?_
  refine s_dup o dX11_close_11 (vA_cat (mg Γ) 21) ?_
  refine r_tgf vI rfl o hT tf_open tj_open (lw_all_tbl q2538) dX11_close_12 (fun v2 hv2 => ?_)
  refine s_iconst o dX11_close_15 ?_
  refine s_isub o dX11_close_16 ?_
  refine r_tpf vI rfl o hT tf_open tj_open (lw_all_tbl q2538) dX11_close_17 (w32_R _) ty_int ?_
  refine s_aload_n o dX11_close_20 rfl 0 rfl ?_
  refine s_iload_n o dX11_close_21 rfl 1 rfl ?_
  refine s_cv (d := d + 0) (C := "LazyForgeModel") (As := [vI l1]) (st := []) o (st_operand (mg Γ) d h hT l1 hl1) mw_X11_operand rfl (Or.inl (lw_all_tbl q3067)) (lw_all_tbl qs87) (lw_all_tbl q3069) (fun t => rc_t o hT t) wt_0 rfl dX11_close_22 rfl (rs := fun _ => []) (fun _ => rfl) (fun _ _ => ?_)
  refine s_aload_n o dX11_close_25 rfl 0 rfl ?_
  refine s_iconst o dX11_close_26 ?_
  refine r_tpf vI rfl o hT tf_isEnded tj_isEnded (lw_all_tbl q2549) dX11_close_27 (Or.inr rfl) ty_boolean ?_
  exact s_vret o rfl dX11_close_30 (fun _ hh => hh)
theorem dX11_beginAt_0 : decode cX11_beginAt 0 = .ok (.aload_n 0, 1) := by decide +kernel
theorem dX11_beginAt_1 : decode cX11_beginAt 1 = .ok (.getfield 110, 3) := by decide +kernel
theorem dX11_beginAt_4 : decode cX11_beginAt 4 = .ok (.iload_n 1, 1) := by decide +kernel
theorem dX11_beginAt_5 : decode cX11_beginAt 5 = .ok (.iload_n 2, 1) := by decide +kernel
theorem dX11_beginAt_6 : decode cX11_beginAt 6 = .ok (.iastore, 1) := by decide +kernel
theorem dX11_beginAt_7 : decode cX11_beginAt 7 = .ok (.aload_n 0, 1) := by decide +kernel
theorem dX11_beginAt_8 : decode cX11_beginAt 8 = .ok (.getfield 113, 3) := by decide +kernel
theorem dX11_beginAt_11 : decode cX11_beginAt 11 = .ok (.iload_n 1, 1) := by decide +kernel
theorem dX11_beginAt_12 : decode cX11_beginAt 12 = .ok (.iconst 0, 1) := by decide +kernel
theorem dX11_beginAt_13 : decode cX11_beginAt 13 = .ok (.iastore, 1) := by decide +kernel
theorem dX11_beginAt_14 : decode cX11_beginAt 14 = .ok (.aload_n 0, 1) := by decide +kernel
theorem dX11_beginAt_15 : decode cX11_beginAt 15 = .ok (.getfield 116, 3) := by decide +kernel
theorem dX11_beginAt_18 : decode cX11_beginAt 18 = .ok (.iload_n 1, 1) := by decide +kernel
theorem dX11_beginAt_19 : decode cX11_beginAt 19 = .ok (.aload_n 0, 1) := by decide +kernel
theorem dX11_beginAt_20 : decode cX11_beginAt 20 = .ok (.getfield 16, 3) := by decide +kernel
theorem dX11_beginAt_23 : decode cX11_beginAt 23 = .ok (.iload_n 2, 1) := by decide +kernel
theorem dX11_beginAt_24 : decode cX11_beginAt 24 = .ok (.iaload, 1) := by decide +kernel
theorem dX11_beginAt_25 : decode cX11_beginAt 25 = .ok (.invokestatic 502, 3) := by decide +kernel
theorem dX11_beginAt_28 : decode cX11_beginAt 28 = .ok (.ifCond .eq 12, 3) := by decide +kernel
theorem dX11_beginAt_31 : decode cX11_beginAt 31 = .ok (.aload_n 0, 1) := by decide +kernel
theorem dX11_beginAt_32 : decode cX11_beginAt 32 = .ok (.getfield 19, 3) := by decide +kernel
theorem dX11_beginAt_35 : decode cX11_beginAt 35 = .ok (.iload_n 2, 1) := by decide +kernel
theorem dX11_beginAt_36 : decode cX11_beginAt 36 = .ok (.iaload, 1) := by decide +kernel
theorem dX11_beginAt_37 : decode cX11_beginAt 37 = .ok (.goto 4, 3) := by decide +kernel
theorem dX11_beginAt_40 : decode cX11_beginAt 40 = .ok (.iconst (-1), 1) := by decide +kernel
theorem dX11_beginAt_41 : decode cX11_beginAt 41 = .ok (.iastore, 1) := by decide +kernel
theorem dX11_beginAt_42 : decode cX11_beginAt 42 = .ok (.return_, 1) := by decide +kernel
theorem mw_X11_beginAt : MW yX11_beginAt (Cond.code yX11_beginAt cX11_beginAt 3 (Option.none : Option Jvm.ClassFile.FieldType)) cX11_beginAt 3 (Option.none : Option Jvm.ClassFile.FieldType) 2 := ⟨rfl, ⟨(lw_all_tbl q3121), rfl, (lw_all_tbl q173)⟩, rfl, ⟨by decide, by decide⟩, by decide +kernel⟩
noncomputable def t_beginAt_41  (k0 : Int) (k1 : Int) : Mo TS Int :=
  bnd (wr 62 3200 k1 k0) fun _ =>
  pr 0
theorem st_beginAt_41 {Γ : Gm} {h : CH} {d : Nat} (hT : HT h) (o : Ok Γ "LazyForgeModel" cX11_beginAt 3 (Option.none : Option Jvm.ClassFile.FieldType) (d + 1))   (k0 : Int) (k1 : Int) (hk0 : R32 k0) (hk1 : R32 k1) : Sx Γ (fun t => (h, t)) (fun a s => mt Γ = (0, a, ((h, s) : Wd))) 41 [] [vI k0, vI k1, vA (mg Γ) 57] (t_beginAt_41 k0 k1) := by
  unfold t_beginAt_41
  refine r_tiast o hT tr_walkChildren hk1 hk0 dX11_beginAt_41 ?_
  exact s_vret o rfl dX11_beginAt_42 (fun _ hh => hh)
noncomputable def t_beginAt (l1 : Int) (l2 : Int) : Mo TS Int :=
  bnd (wr 60 3200 l1 l2) fun _ =>
  bnd (wr 61 3200 l1 0) fun _ =>
  bnd (rd 13 3200 l2) fun v1 =>
  bnd (t_hasRow v1) fun v2 =>
  if v2 = 0 then
    t_beginAt_41 (-1) l1
  else
    bnd (rd 14 3200 l2) fun v3 =>
    t_beginAt_41 v3 l1
theorem st_beginAt (g : gC) (d : Nat) (h : CH) (hT : HT h) (l1 : Int) (l2 : Int) (hl1 : R32 l1) (hl2 : R32 l2) : SF g yX11_beginAt (Cond.code yX11_beginAt cX11_beginAt 3 (Option.none : Option Jvm.ClassFile.FieldType)) (Option.none : Option Jvm.ClassFile.FieldType) (d + 1) [vA g 21, vI l1, vI l2] (fun t => (h, t)) (t_beginAt l1 l2) := by
  refine SF.of (lv := [(0, vA g 21), (1, vI l1), (2, vI l2)]) (by decide) (wt_A (wt_I (wt_I wt_0))) rfl (by simp only [la_A, la_I, la_J, la_0]) (fun Γ hg hnm o => ?_)
  subst hg
  have o : Ok Γ "LazyForgeModel" cX11_beginAt 3 (Option.none : Option Jvm.ClassFile.FieldType) (d + 1) := o
  unfold t_beginAt
  refine s_aload_n o dX11_beginAt_0 rfl 0 rfl ?_
  refine s_tga (x := 55) o hT tf_walk ta_walk (lw_all_tbl q2564) dX11_beginAt_1 ?_
  refine s_iload_n o dX11_beginAt_4 rfl 1 rfl ?_
  refine s_iload_n o dX11_beginAt_5 rfl 2 rfl ?_
  refine r_tiast o hT tr_walk hl1 hl2 dX11_beginAt_6 ?_
  refine s_aload_n o dX11_beginAt_7 rfl 0 rfl ?_
  refine s_tga (x := 56) o hT tf_walkStages ta_walkStages (lw_all_tbl q2565) dX11_beginAt_8 ?_
  refine s_iload_n o dX11_beginAt_11 rfl 1 rfl ?_
  refine s_iconst o dX11_beginAt_12 ?_
  refine r_tiast o hT tr_walkStages hl1 (r32 rfl) dX11_beginAt_13 ?_
  refine s_aload_n o dX11_beginAt_14 rfl 0 rfl ?_
  refine s_tga (x := 57) o hT tf_walkChildren ta_walkChildren (lw_all_tbl q2566) dX11_beginAt_15 ?_
  refine s_iload_n o dX11_beginAt_18 rfl 1 rfl ?_
  refine s_aload_n o dX11_beginAt_19 rfl 0 rfl ?_
  refine s_tga (x := 24) o hT tf_kinds ta_kinds (lw_all_tbl q2517) dX11_beginAt_20 ?_
  refine s_iload_n o dX11_beginAt_23 rfl 2 rfl ?_
  refine r_tiald o hT tr_kinds hl2 dX11_beginAt_24 (fun v1 hv1 => ?_)
  refine s_cs (d := d + 0) (As := [vI v1]) (st := [vI l1, vA (mg Γ) 57]) o (st_hasRow (mg Γ) d h v1 hv1) mw_X11_hasRow rfl (Or.inl (lw_all_tbl q3122)) (lw_all_tbl q3123) (wt_I (wt_A wt_0)) rfl dX11_beginAt_25 rfl (rs := fun r => [vI r, vI l1, vA (mg Γ) 57]) (fun _ => rfl) (fun v2 hv2 => ?_)
  refine s_if_eq (tgt := 40) o dX11_beginAt_28 (by decide) (rZ (hv2 _ rfl)) ?_ ?_
  · refine s_iconst o dX11_beginAt_40 ?_
    refine r_to [] [] rfl ?_
    exact st_beginAt_41 hT o (-1) l1 (r32 rfl) hl1
  · refine s_aload_n o dX11_beginAt_31 rfl 0 rfl ?_
    refine s_tga (x := 25) o hT tf_firsts ta_firsts (lw_all_tbl q2518) dX11_beginAt_32 ?_
    refine s_iload_n o dX11_beginAt_35 rfl 2 rfl ?_
    refine r_tiald o hT tr_firsts hl2 dX11_beginAt_36 (fun v3 hv3 => ?_)
    refine s_goto (tgt := 41) o dX11_beginAt_37 (by decide) ?_
    refine r_to [] [] rfl ?_
    exact st_beginAt_41 hT o v3 l1 hv3 hl1
theorem dX11_use_0 : decode cX11_use 0 = .ok (.aload_n 0, 1) := by decide +kernel
theorem dX11_use_1 : decode cX11_use 1 = .ok (.getfield 480, 3) := by decide +kernel
theorem dX11_use_4 : decode cX11_use 4 = .ok (.iconst 1, 1) := by decide +kernel
theorem dX11_use_5 : decode cX11_use 5 = .ok (.isub, 1) := by decide +kernel
theorem dX11_use_6 : decode cX11_use 6 = .ok (.istore_n 2, 1) := by decide +kernel
theorem dX11_use_7 : decode cX11_use 7 = .ok (.iload_n 2, 1) := by decide +kernel
theorem dX11_use_8 : decode cX11_use 8 = .ok (.ifCond .lt 25, 3) := by decide +kernel
theorem dX11_use_11 : decode cX11_use 11 = .ok (.aload_n 0, 1) := by decide +kernel
theorem dX11_use_12 : decode cX11_use 12 = .ok (.getfield 101, 3) := by decide +kernel
theorem dX11_use_15 : decode cX11_use 15 = .ok (.iload_n 2, 1) := by decide +kernel
theorem dX11_use_16 : decode cX11_use 16 = .ok (.laload, 1) := by decide +kernel
theorem dX11_use_17 : decode cX11_use 17 = .ok (.aload_n 0, 1) := by decide +kernel
theorem dX11_use_18 : decode cX11_use 18 = .ok (.getfield 37, 3) := by decide +kernel
theorem dX11_use_21 : decode cX11_use 21 = .ok (.iload_n 1, 1) := by decide +kernel
theorem dX11_use_22 : decode cX11_use 22 = .ok (.laload, 1) := by decide +kernel
theorem dX11_use_23 : decode cX11_use 23 = .ok (.lcmp, 1) := by decide +kernel
theorem dX11_use_24 : decode cX11_use 24 = .ok (.ifCond .eq 9, 3) := by decide +kernel
theorem dX11_use_27 : decode cX11_use 27 = .ok (.iinc 2 (-1), 3) := by decide +kernel
theorem dX11_use_30 : decode cX11_use 30 = .ok (.goto (-23), 3) := by decide +kernel
theorem dX11_use_33 : decode cX11_use 33 = .ok (.iload_n 2, 1) := by decide +kernel
theorem dX11_use_34 : decode cX11_use 34 = .ok (.ifCond .lt 67, 3) := by decide +kernel
theorem dX11_use_37 : decode cX11_use 37 = .ok (.aload_n 0, 1) := by decide +kernel
theorem dX11_use_38 : decode cX11_use 38 = .ok (.getfield 104, 3) := by decide +kernel
theorem dX11_use_41 : decode cX11_use 41 = .ok (.iload_n 2, 1) := by decide +kernel
theorem dX11_use_42 : decode cX11_use 42 = .ok (.iaload, 1) := by decide +kernel
theorem dX11_use_43 : decode cX11_use 43 = .ok (.istore_n 3, 1) := by decide +kernel
theorem dX11_use_44 : decode cX11_use 44 = .ok (.aload_n 0, 1) := by decide +kernel
theorem dX11_use_45 : decode cX11_use 45 = .ok (.getfield 34, 3) := by decide +kernel
theorem dX11_use_48 : decode cX11_use 48 = .ok (.iload_n 1, 1) := by decide +kernel
theorem dX11_use_49 : decode cX11_use 49 = .ok (.iconst 1, 1) := by decide +kernel
theorem dX11_use_50 : decode cX11_use 50 = .ok (.iastore, 1) := by decide +kernel
theorem dX11_use_51 : decode cX11_use 51 = .ok (.aload_n 0, 1) := by decide +kernel
theorem dX11_use_52 : decode cX11_use 52 = .ok (.getfield 31, 3) := by decide +kernel
theorem dX11_use_55 : decode cX11_use 55 = .ok (.iload_n 1, 1) := by decide +kernel
theorem dX11_use_56 : decode cX11_use 56 = .ok (.iload_n 3, 1) := by decide +kernel
theorem dX11_use_57 : decode cX11_use 57 = .ok (.iastore, 1) := by decide +kernel
theorem dX11_use_58 : decode cX11_use 58 = .ok (.aload_n 0, 1) := by decide +kernel
theorem dX11_use_59 : decode cX11_use 59 = .ok (.getfield 477, 3) := by decide +kernel
theorem dX11_use_62 : decode cX11_use 62 = .ok (.iconst 1, 1) := by decide +kernel
theorem dX11_use_63 : decode cX11_use 63 = .ok (.isub, 1) := by decide +kernel
theorem dX11_use_64 : decode cX11_use 64 = .ok (.istore 4, 2) := by decide +kernel
theorem dX11_use_66 : decode cX11_use 66 = .ok (.aload_n 0, 1) := by decide +kernel
theorem dX11_use_67 : decode cX11_use 67 = .ok (.getfield 107, 3) := by decide +kernel
theorem dX11_use_70 : decode cX11_use 70 = .ok (.iload 4, 2) := by decide +kernel
theorem dX11_use_72 : decode cX11_use 72 = .ok (.iaload, 1) := by decide +kernel
theorem dX11_use_73 : decode cX11_use 73 = .ok (.aload_n 0, 1) := by decide +kernel
theorem dX11_use_74 : decode cX11_use 74 = .ok (.getfield 89, 3) := by decide +kernel
theorem dX11_use_77 : decode cX11_use 77 = .ok (.iload_n 3, 1) := by decide +kernel
theorem dX11_use_78 : decode cX11_use 78 = .ok (.iaload, 1) := by decide +kernel
theorem dX11_use_79 : decode cX11_use 79 = .ok (.if_icmp .eq 21, 3) := by decide +kernel
theorem dX11_use_82 : decode cX11_use 82 = .ok (.aload_n 0, 1) := by decide +kernel
theorem dX11_use_83 : decode cX11_use 83 = .ok (.aload_n 0, 1) := by decide +kernel
theorem dX11_use_84 : decode cX11_use 84 = .ok (.getfield 107, 3) := by decide +kernel
theorem dX11_use_87 : decode cX11_use 87 = .ok (.iload 4, 2) := by decide +kernel
theorem dX11_use_89 : decode cX11_use 89 = .ok (.iaload, 1) := by decide +kernel
theorem dX11_use_90 : decode cX11_use 90 = .ok (.iload_n 3, 1) := by decide +kernel
theorem dX11_use_91 : decode cX11_use 91 = .ok (.invokevirtual 489, 3) := by decide +kernel
theorem dX11_use_94 : decode cX11_use 94 = .ok (.iinc 4 (-1), 3) := by decide +kernel
theorem dX11_use_97 : decode cX11_use 97 = .ok (.goto (-31), 3) := by decide +kernel
theorem dX11_use_100 : decode cX11_use 100 = .ok (.return_, 1) := by decide +kernel
theorem dX11_use_101 : decode cX11_use 101 = .ok (.iconst 0, 1) := by decide +kernel
theorem dX11_use_102 : decode cX11_use 102 = .ok (.istore_n 3, 1) := by decide +kernel
theorem dX11_use_103 : decode cX11_use 103 = .ok (.iload_n 3, 1) := by decide +kernel
theorem dX11_use_104 : decode cX11_use 104 = .ok (.aload_n 0, 1) := by decide +kernel
theorem dX11_use_105 : decode cX11_use 105 = .ok (.getfield 462, 3) := by decide +kernel
theorem dX11_use_108 : decode cX11_use 108 = .ok (.if_icmp .ge 25, 3) := by decide +kernel
theorem dX11_use_111 : decode cX11_use 111 = .ok (.aload_n 0, 1) := by decide +kernel
theorem dX11_use_112 : decode cX11_use 112 = .ok (.getfield 50, 3) := by decide +kernel
theorem dX11_use_115 : decode cX11_use 115 = .ok (.iload_n 3, 1) := by decide +kernel
theorem dX11_use_116 : decode cX11_use 116 = .ok (.laload, 1) := by decide +kernel
theorem dX11_use_117 : decode cX11_use 117 = .ok (.aload_n 0, 1) := by decide +kernel
theorem dX11_use_118 : decode cX11_use 118 = .ok (.getfield 37, 3) := by decide +kernel
theorem dX11_use_121 : decode cX11_use 121 = .ok (.iload_n 1, 1) := by decide +kernel
theorem dX11_use_122 : decode cX11_use 122 = .ok (.laload, 1) := by decide +kernel
theorem dX11_use_123 : decode cX11_use 123 = .ok (.lcmp, 1) := by decide +kernel
theorem dX11_use_124 : decode cX11_use 124 = .ok (.ifCond .eq 9, 3) := by decide +kernel
theorem dX11_use_127 : decode cX11_use 127 = .ok (.iinc 3 1, 3) := by decide +kernel
theorem dX11_use_130 : decode cX11_use 130 = .ok (.goto (-27), 3) := by decide +kernel
theorem dX11_use_133 : decode cX11_use 133 = .ok (.aload_n 0, 1) := by decide +kernel
theorem dX11_use_134 : decode cX11_use 134 = .ok (.getfield 34, 3) := by decide +kernel
theorem dX11_use_137 : decode cX11_use 137 = .ok (.iload_n 1, 1) := by decide +kernel
theorem dX11_use_138 : decode cX11_use 138 = .ok (.iconst 0, 1) := by decide +kernel
theorem dX11_use_139 : decode cX11_use 139 = .ok (.iastore, 1) := by decide +kernel
theorem dX11_use_140 : decode cX11_use 140 = .ok (.aload_n 0, 1) := by decide +kernel
theorem dX11_use_141 : decode cX11_use 141 = .ok (.getfield 31, 3) := by decide +kernel
theorem dX11_use_144 : decode cX11_use 144 = .ok (.iload_n 1, 1) := by decide +kernel
theorem dX11_use_145 : decode cX11_use 145 = .ok (.iload_n 3, 1) := by decide +kernel
theorem dX11_use_146 : decode cX11_use 146 = .ok (.iastore, 1) := by decide +kernel
theorem dX11_use_147 : decode cX11_use 147 = .ok (.iload_n 3, 1) := by decide +kernel
theorem dX11_use_148 : decode cX11_use 148 = .ok (.aload_n 0, 1) := by decide +kernel
theorem dX11_use_149 : decode cX11_use 149 = .ok (.getfield 462, 3) := by decide +kernel
theorem dX11_use_152 : decode cX11_use 152 = .ok (.if_icmp .ne 14, 3) := by decide +kernel
theorem dX11_use_155 : decode cX11_use 155 = .ok (.aload_n 0, 1) := by decide +kernel
theorem dX11_use_156 : decode cX11_use 156 = .ok (.iconst 5, 1) := by decide +kernel
theorem dX11_use_157 : decode cX11_use 157 = .ok (.aload_n 0, 1) := by decide +kernel
theorem dX11_use_158 : decode cX11_use 158 = .ok (.getfield 28, 3) := by decide +kernel
theorem dX11_use_161 : decode cX11_use 161 = .ok (.iload_n 1, 1) := by decide +kernel
theorem dX11_use_162 : decode cX11_use 162 = .ok (.iaload, 1) := by decide +kernel
theorem dX11_use_163 : decode cX11_use 163 = .ok (.invokevirtual 317, 3) := by decide +kernel
theorem dX11_use_166 : decode cX11_use 166 = .ok (.return_, 1) := by decide +kernel
theorem mw_X11_use : MW yX11_use (Cond.code yX11_use cX11_use 5 (Option.none : Option Jvm.ClassFile.FieldType)) cX11_use 5 (Option.none : Option Jvm.ClassFile.FieldType) 1 := ⟨rfl, ⟨(lw_all_tbl q3136), rfl, (lw_all_tbl q173)⟩, rfl, ⟨by decide, by decide⟩, by decide +kernel⟩
abbrev okt_use_7 (x : Int × Int) : Prop := R32 x.1 ∧ R32 x.2
abbrev lvt_use_7 (Γ : Gm) (x : Int × Int) : List (Nat × Value) := [(0, vA (mg Γ) 21), (1, vI x.1), (2, vI x.2)]
noncomputable def t_use_7b {A : Type} (k_33 : Int → Int → Mo TS A) (l1 : Int) (l2 : Int) : Mo TS ((Int × Int) ⊕ A) :=
  if l2 < 0 then
    lo (k_33 l1 l2)
  else
    bnd (rd 56 3200 l2) fun v1 =>
    bnd (rd 20 3200 l1) fun v2 =>
    if v1 = v2 then
      lo (k_33 l1 l2)
    else
      pr (.inl (l1, (w32 (l2 + (-1)))))
theorem st_use_7b {Γ : Gm} {h : CH} {d : Nat} (hT : HT h) (o : Ok Γ "LazyForgeModel" cX11_use 5 (Option.none : Option Jvm.ClassFile.FieldType) (d + 1)) {A : Type} {K : A → TS → Prop} (k_33 : Int → Int → Mo TS A) (hk_33 : ∀ (l1 : Int) (l2 : Int), R32 l1 → R32 l2 → Sx Γ (fun t => (h, t)) K 33 [(0, vA (mg Γ) 21), (1, vI l1), (2, vI l2)] [] (k_33 l1 l2)) (l1 : Int) (l2 : Int) (hl1 : R32 l1) (hl2 : R32 l2) : Sx Γ (fun t => (h, t)) (KL Γ (fun t => (h, t)) okt_use_7 K 7 (lvt_use_7 Γ) []) 7 [(0, vA (mg Γ) 21), (1, vI l1), (2, vI l2)] [] (t_use_7b k_33 l1 l2) := by
  unfold t_use_7b
  refine s_iload_n o dX11_use_7 rfl 2 rfl ?_
  refine s_if_lt (tgt := 33) o dX11_use_8 (by decide) hl2 ?_ ?_
  · exact s_lo (hk_33 l1 l2 hl1 hl2)
  · refine s_aload_n o dX11_use_11 rfl 0 rfl ?_
    refine s_tga (x := 52) o hT tf_seenNames ta_seenNames (lw_all_tbl q2560) dX11_use_12 ?_
    refine s_iload_n o dX11_use_15 rfl 2 rfl ?_
    refine r_tlald o hT tr_seenNames hl2 dX11_use_16 (fun v1 hv1 => ?_)
    refine s_aload_n o dX11_use_17 rfl 0 rfl ?_
    refine s_tga (x := 31) o hT tf_nodeNames ta_nodeNames (lw_all_tbl q2524) dX11_use_18 ?_
    refine s_iload_n o dX11_use_21 rfl 1 rfl ?_
    refine r_tlald o hT tr_nodeNames hl1 dX11_use_22 (fun v2 hv2 => ?_)
    refine s_lcmp_eq (tgt := 33) o dX11_use_23 dX11_use_24 (by decide) hv1 hv2 ?_ ?_
    · exact s_lo (hk_33 l1 l2 hl1 hl2)
    · refine r_iinc (j := 2) o dX11_use_27 rfl rfl [(0, vA (mg Γ) 21), (1, vI l1)] [0, 1] rfl ⟨(Nat.ne_of_beq_eq_false rfl), (fun _ => (vA_cat (mg Γ) 21)), ⟨(Nat.ne_of_beq_eq_false rfl), (fun _ => rfl), trivial⟩⟩ ?_
      refine s_goto (tgt := 7) o dX11_use_30 (by decide) ?_
      refine r_to [(0, vA (mg Γ) 21), (1, vI l1), (2, vI (w32 (l2 + (-1))))] [1, 2, 0] rfl ?_
      exact s_back (⟨hl1, (w32_R _)⟩) rfl
noncomputable def t_use_7 {A : Type} (k_33 : Int → Int → Mo TS A) (l1 : Int) (l2 : Int) : Mo TS A := Loop (fun x => t_use_7b k_33 x.1 x.2) (l1, l2)
theorem st_use_7 {Γ : Gm} {h : CH} {d : Nat} (hT : HT h) (o : Ok Γ "LazyForgeModel" cX11_use 5 (Option.none : Option Jvm.ClassFile.FieldType) (d + 1)) {A : Type} {K : A → TS → Prop} (k_33 : Int → Int → Mo TS A) (hk_33 : ∀ (l1 : Int) (l2 : Int), R32 l1 → R32 l2 → Sx Γ (fun t => (h, t)) K 33 [(0, vA (mg Γ) 21), (1, vI l1), (2, vI l2)] [] (k_33 l1 l2)) (l1 : Int) (l2 : Int) (hl1 : R32 l1) (hl2 : R32 l2) : Sx Γ (fun t => (h, t)) K 7 [(0, vA (mg Γ) 21), (1, vI l1), (2, vI l2)] [] (t_use_7 k_33 l1 l2) :=
  s_loop okt_use_7 (lvt_use_7 Γ) (fun x hx => st_use_7b hT o k_33 hk_33 x.1 x.2 hx.1 hx.2) (x := (l1, l2)) ⟨hl1, hl2⟩
abbrev okt_use_103 (x : Int × Int) : Prop := R32 x.1 ∧ R32 x.2
abbrev lvt_use_103 (Γ : Gm) (x : Int × Int) : List (Nat × Value) := [(0, vA (mg Γ) 21), (1, vI x.1), (3, vI x.2)]
noncomputable def t_use_103b {A : Type} (k_133 : Int → Int → Mo TS A) (l1 : Int) (l3 : Int) : Mo TS ((Int × Int) ⊕ A) :=
  bnd (gs 27) fun v1 =>
  if v1 ≤ l3 then
    lo (k_133 l1 l3)
  else
    bnd (rd 28 640 l3) fun v2 =>
    bnd (rd 20 3200 l1) fun v3 =>
    if v2 = v3 then
      lo (k_133 l1 l3)
    else
      pr (.inl (l1, (w32 (l3 + 1))))
theorem st_use_103b {Γ : Gm} {h : CH} {d : Nat} (hT : HT h) (o : Ok Γ "LazyForgeModel" cX11_use 5 (Option.none : Option Jvm.ClassFile.FieldType) (d + 1)) {A : Type} {K : A → TS → Prop} (k_133 : Int → Int → Mo TS A) (hk_133 : ∀ (l1 : Int) (l3 : Int), R32 l1 → R32 l3 → Sx Γ (fun t => (h, t)) K 133 [(0, vA (mg Γ) 21), (1, vI l1), (3, vI l3)] [] (k_133 l1 l3)) (l1 : Int) (l3 : Int) (hl1 : R32 l1) (hl3 : R32 l3) : Sx Γ (fun t => (h, t)) (KL Γ (fun t => (h, t)) okt_use_103 K 103 (lvt_use_103 Γ) []) 103 [(0, vA (mg Γ) 21), (1, vI l1), (3, vI l3)] [] (t_use_103b k_133 l1 l3) := by
  unfold t_use_103b
  refine s_iload_n o dX11_use_103 rfl 2 rfl ?_
  refine s_aload_n o dX11_use_104 rfl 0 rfl ?_
  refine r_tgf vI rfl o hT tf_functions tj_functions (lw_all_tbl q2531) dX11_use_105 (fun v1 hv1 => ?_)
  refine s_icmp_ge (tgt := 133) o dX11_use_108 (by decide) hl3 hv1 ?_ ?_
  · exact s_lo (hk_133 l1 l3 hl1 hl3)
  · refine s_aload_n o dX11_use_111 rfl 0 rfl ?_
    refine s_tga (x := 35) o hT tf_functionNames ta_functionNames (lw_all_tbl q2532) dX11_use_112 ?_
    refine s_iload_n o dX11_use_115 rfl 2 rfl ?_
    refine r_tlald o hT tr_functionNames hl3 dX11_use_116 (fun v2 hv2 => ?_)
    refine s_aload_n o dX11_use_117 rfl 0 rfl ?_
    refine s_tga (x := 31) o hT tf_nodeNames ta_nodeNames (lw_all_tbl q2524) dX11_use_118 ?_
    refine s_iload_n o dX11_use_121 rfl 1 rfl ?_
    refine r_tlald o hT tr_nodeNames hl1 dX11_use_122 (fun v3 hv3 => ?_)
    refine s_lcmp_eq (tgt := 133) o dX11_use_123 dX11_use_124 (by decide) hv2 hv3 ?_ ?_
    · exact s_lo (hk_133 l1 l3 hl1 hl3)
    · refine r_iinc (j := 2) o dX11_use_127 rfl rfl [(0, vA (mg Γ) 21), (1, vI l1)] [0, 1] rfl ⟨(Nat.ne_of_beq_eq_false rfl), (fun _ => (vA_cat (mg Γ) 21)), ⟨(Nat.ne_of_beq_eq_false rfl), (fun _ => rfl), trivial⟩⟩ ?_
      refine s_goto (tgt := 103) o dX11_use_130 (by decide) ?_
      refine r_to [(0, vA (mg Γ) 21), (1, vI l1), (3, vI (w32 (l3 + 1)))] [1, 2, 0] rfl ?_
      exact s_back (⟨hl1, (w32_R _)⟩) rfl
noncomputable def t_use_103 {A : Type} (k_133 : Int → Int → Mo TS A) (l1 : Int) (l3 : Int) : Mo TS A := Loop (fun x => t_use_103b k_133 x.1 x.2) (l1, l3)
theorem st_use_103 {Γ : Gm} {h : CH} {d : Nat} (hT : HT h) (o : Ok Γ "LazyForgeModel" cX11_use 5 (Option.none : Option Jvm.ClassFile.FieldType) (d + 1)) {A : Type} {K : A → TS → Prop} (k_133 : Int → Int → Mo TS A) (hk_133 : ∀ (l1 : Int) (l3 : Int), R32 l1 → R32 l3 → Sx Γ (fun t => (h, t)) K 133 [(0, vA (mg Γ) 21), (1, vI l1), (3, vI l3)] [] (k_133 l1 l3)) (l1 : Int) (l3 : Int) (hl1 : R32 l1) (hl3 : R32 l3) : Sx Γ (fun t => (h, t)) K 103 [(0, vA (mg Γ) 21), (1, vI l1), (3, vI l3)] [] (t_use_103 k_133 l1 l3) :=
  s_loop okt_use_103 (lvt_use_103 Γ) (fun x hx => st_use_103b hT o k_133 hk_133 x.1 x.2 hx.1 hx.2) (x := (l1, l3)) ⟨hl1, hl3⟩
abbrev okt_use_66 (x : Int × Int) : Prop := R32 x.1 ∧ R32 x.2
abbrev lvt_use_66 (Γ : Gm) (x : Int × Int) : List (Nat × Value) := [(0, vA (mg Γ) 21), (3, vI x.1), (4, vI x.2)]
noncomputable def t_use_66b {A : Type} (k_100 : Mo TS A) (l3 : Int) (l4 : Int) : Mo TS ((Int × Int) ⊕ A) :=
  bnd (rd 59 64 l4) fun v1 =>
  bnd (rd 51 3200 l3) fun v2 =>
  if v1 = v2 then
    lo k_100
  else
    bnd (rd 59 64 l4) fun v3 =>
    bnd (t_addFree v3 l3) fun _ =>
    pr (.inl (l3, (w32 (l4 + (-1)))))
theorem st_use_66b {Γ : Gm} {h : CH} {d : Nat} (hT : HT h) (o : Ok Γ "LazyForgeModel" cX11_use 5 (Option.none : Option Jvm.ClassFile.FieldType) (d + 1)) {A : Type} {K : A → TS → Prop} (k_100 : Mo TS A) (hk_100 : Sx Γ (fun t => (h, t)) K 100 [] [] (k_100)) (l3 : Int) (l4 : Int) (hl3 : R32 l3) (hl4 : R32 l4) : Sx Γ (fun t => (h, t)) (KL Γ (fun t => (h, t)) okt_use_66 K 66 (lvt_use_66 Γ) []) 66 [(0, vA (mg Γ) 21), (3, vI l3), (4, vI l4)] [] (t_use_66b k_100 l3 l4) := by
  unfold t_use_66b
  refine s_aload_n o dX11_use_66 rfl 0 rfl ?_
  refine s_tga (x := 54) o hT tf_arounds ta_arounds (lw_all_tbl q2563) dX11_use_67 ?_
  refine s_iload o dX11_use_70 2 rfl ?_
  refine r_tiald o hT tr_arounds hl4 dX11_use_72 (fun v1 hv1 => ?_)
  refine s_aload_n o dX11_use_73 rfl 0 rfl ?_
  refine s_tga (x := 48) o hT tf_homes ta_homes (lw_all_tbl q2555) dX11_use_74 ?_
  refine s_iload_n o dX11_use_77 rfl 1 rfl ?_
  refine r_tiald o hT tr_homes hl3 dX11_use_78 (fun v2 hv2 => ?_)
  refine s_icmp_eq (tgt := 100) o dX11_use_79 (by decide) hv1 hv2 ?_ ?_
  · refine r_to [] [] rfl ?_
    exact s_lo hk_100
  · refine s_aload_n o dX11_use_82 rfl 0 rfl ?_
    refine s_aload_n o dX11_use_83 rfl 0 rfl ?_
    refine s_tga (x := 54) o hT tf_arounds ta_arounds (lw_all_tbl q2563) dX11_use_84 ?_
    refine s_iload o dX11_use_87 2 rfl ?_
    refine r_tiald o hT tr_arounds hl4 dX11_use_89 (fun v3 hv3 => ?_)
    refine s_iload_n o dX11_use_90 rfl 1 rfl ?_
    refine s_cv (d := d + 0) (C := "LazyForgeModel") (As := [vI v3, vI l3]) (st := []) o (st_addFree (mg Γ) d h hT v3 l3 hv3 hl3) mw_X11_addFree rfl (Or.inl (lw_all_tbl q3137)) (lw_all_tbl qs103) (lw_all_tbl q3139) (fun t => rc_t o hT t) wt_0 rfl dX11_use_91 rfl (rs := fun _ => []) (fun _ => rfl) (fun _ _ => ?_)
    refine r_iinc (j := 2) o dX11_use_94 rfl rfl [(0, vA (mg Γ) 21), (3, vI l3)] [0, 1] rfl ⟨(Nat.ne_of_beq_eq_false rfl), (fun _ => (vA_cat (mg Γ) 21)), ⟨(Nat.ne_of_beq_eq_false rfl), (fun _ => rfl), trivial⟩⟩ ?_
    refine s_goto (tgt := 66) o dX11_use_97 (by decide) ?_
    refine r_to [(0, vA (mg Γ) 21), (3, vI l3), (4, vI (w32 (l4 + (-1))))] [1, 2, 0] rfl ?_
    exact s_back (⟨hl3, (w32_R _)⟩) rfl
noncomputable def t_use_66 {A : Type} (k_100 : Mo TS A) (l3 : Int) (l4 : Int) : Mo TS A := Loop (fun x => t_use_66b k_100 x.1 x.2) (l3, l4)
theorem st_use_66 {Γ : Gm} {h : CH} {d : Nat} (hT : HT h) (o : Ok Γ "LazyForgeModel" cX11_use 5 (Option.none : Option Jvm.ClassFile.FieldType) (d + 1)) {A : Type} {K : A → TS → Prop} (k_100 : Mo TS A) (hk_100 : Sx Γ (fun t => (h, t)) K 100 [] [] (k_100)) (l3 : Int) (l4 : Int) (hl3 : R32 l3) (hl4 : R32 l4) : Sx Γ (fun t => (h, t)) K 66 [(0, vA (mg Γ) 21), (3, vI l3), (4, vI l4)] [] (t_use_66 k_100 l3 l4) :=
  s_loop okt_use_66 (lvt_use_66 Γ) (fun x hx => st_use_66b hT o k_100 hk_100 x.1 x.2 hx.1 hx.2) (x := (l3, l4)) ⟨hl3, hl4⟩
noncomputable def t_use (l1 : Int) : Mo TS Int :=
  bnd (gs 55) fun v1 =>
  t_use_7
    (fun v2 v3 => if v3 < 0 then
    t_use_103
      (fun v4 v5 => bnd (wr 19 3200 v4 0) fun _ =>
    bnd (wr 18 3200 v4 v5) fun _ =>
    bnd (gs 27) fun v6 =>
    if ¬ v5 = v6 then
      pr 0
    else
      bnd (rd 17 3200 v4) fun v7 =>
      bnd (t_fail 5 v7) fun _ =>
      pr 0) v2 0
  else
    bnd (rd 57 3200 v3) fun v8 =>
    bnd (wr 19 3200 v2 1) fun _ =>
    bnd (wr 18 3200 v2 v8) fun _ =>
    bnd (gs 58) fun v9 =>
    t_use_66
      (pr 0) v8 (w32 (v9 - 1))) l1 (w32 (v1 - 1))
theorem st_use (g : gC) (d : Nat) (h : CH) (hT : HT h) (l1 : Int) (hl1 : R32 l1) : SF g yX11_use (Cond.code yX11_use cX11_use 5 (Option.none : Option Jvm.ClassFile.FieldType)) (Option.none : Option Jvm.ClassFile.FieldType) (d + 1) [vA g 21, vI l1] (fun t => (h, t)) (t_use l1) := by
  refine SF.of (lv := [(0, vA g 21), (1, vI l1)]) (by decide) (wt_A (wt_I wt_0)) rfl (by simp only [la_A, la_I, la_J, la_0]) (fun Γ hg hnm o => ?_)
  subst hg
  have o : Ok Γ "LazyForgeModel" cX11_use 5 (Option.none : Option Jvm.ClassFile.FieldType) (d + 1) := o
  unfold t_use
  refine s_aload_n o dX11_use_0 rfl 0 rfl ?_
  refine r_tgf vI rfl o hT tf_seen tj_seen (lw_all_tbl q2559) dX11_use_1 (fun v1 hv1 => ?_)
  refine s_iconst o dX11_use_4 ?_
  refine s_isub o dX11_use_5 ?_
  refine r_istore_n o dX11_use_6 rfl rfl ⟨(Nat.ne_of_beq_eq_false rfl), (fun _ => (vA_cat (mg Γ) 21)), ⟨(Nat.ne_of_beq_eq_false rfl), (fun _ => rfl), trivial⟩⟩ ?_
  refine r_to [(0, vA (mg Γ) 21), (1, vI l1), (2, vI (w32 (v1 - 1)))] [1, 2, 0] rfl ?_
  refine st_use_7 hT o _ ?_ l1 (w32 (v1 - 1)) hl1 (w32_R _)
  · intro v2 v3 hv2 hv3
    refine s_iload_n o dX11_use_33 rfl 2 rfl ?_
    refine s_if_lt (tgt := 101) o dX11_use_34 (by decide) hv3 ?_ ?_
    · refine s_iconst o dX11_use_101 ?_
      refine r_istore_n o dX11_use_102 rfl rfl ⟨(Nat.ne_of_beq_eq_false rfl), (fun _ => (vA_cat (mg Γ) 21)), ⟨(Nat.ne_of_beq_eq_false rfl), (fun _ => rfl), ⟨(Nat.ne_of_beq_eq_false rfl), (fun _ => rfl), trivial⟩⟩⟩ ?_
      refine r_to [(0, vA (mg Γ) 21), (1, vI v2), (3, vI 0)] [1, 2, 0] rfl ?_
      refine st_use_103 hT o _ ?_ v2 0 hv2 (r32 rfl)
      · intro v4 v5 hv4 hv5
        refine s_aload_n o dX11_use_133 rfl 0 rfl ?_
        refine s_tga (x := 30) o hT tf_sorts ta_sorts (lw_all_tbl q2523) dX11_use_134 ?_
        refine s_iload_n o dX11_use_137 rfl 1 rfl ?_
        refine s_iconst o dX11_use_138 ?_
        refine r_tiast o hT tr_sorts hv4 (r32 rfl) dX11_use_139 ?_
        refine s_aload_n o dX11_use_140 rfl 0 rfl ?_
        refine s_tga (x := 29) o hT tf_values ta_values (lw_all_tbl q2522) dX11_use_141 ?_
        refine s_iload_n o dX11_use_144 rfl 1 rfl ?_
        refine s_iload_n o dX11_use_145 rfl 2 rfl ?_
        refine r_tiast o hT tr_values hv4 hv5 dX11_use_146 ?_
        refine s_iload_n o dX11_use_147 rfl 2 rfl ?_
        refine s_aload_n o dX11_use_148 rfl 0 rfl ?_
        refine r_tgf vI rfl o hT tf_functions tj_functions (lw_all_tbl q2531) dX11_use_149 (fun v6 hv6 => ?_)
        refine s_icmp_ne (tgt := 166) o dX11_use_152 (by decide) hv5 hv6 ?_ ?_
        · exact s_vret o rfl dX11_use_166 (fun _ hh => hh)
        · refine s_aload_n o dX11_use_155 rfl 0 rfl ?_
          refine s_iconst o dX11_use_156 ?_
          refine s_aload_n o dX11_use_157 rfl 0 rfl ?_
          refine s_tga (x := 28) o hT tf_places ta_places (lw_all_tbl q2521) dX11_use_158 ?_
          refine s_iload_n o dX11_use_161 rfl 1 rfl ?_
          refine r_tiald o hT tr_places hv4 dX11_use_162 (fun v7 hv7 => ?_)
          refine s_cv (d := d + 0) (C := "LazyForgeModel") (As := [vI 5, vI v7]) (st := []) o (st_fail (mg Γ) d h hT 5 v7 (r32 rfl) hv7) mw_X11_fail rfl (Or.inl (lw_all_tbl q2975)) (lw_all_tbl qs64) (lw_all_tbl q2977) (fun t => rc_t o hT t) wt_0 rfl dX11_use_163 rfl (rs := fun _ => []) (fun _ => rfl) (fun _ _ => ?_)
          exact s_vret o rfl dX11_use_166 (fun _ hh => hh)
    · refine s_aload_n o dX11_use_37 rfl 0 rfl ?_
      refine s_tga (x := 53) o hT tf_seenVariables ta_seenVariables (lw_all_tbl q2561) dX11_use_38 ?_
      refine s_iload_n o dX11_use_41 rfl 2 rfl ?_
      refine r_tiald o hT tr_seenVariables hv3 dX11_use_42 (fun v8 hv8 => ?_)
      refine r_istore_n o dX11_use_43 rfl rfl ⟨(Nat.ne_of_beq_eq_false rfl), (fun _ => (vA_cat (mg Γ) 21)), ⟨(Nat.ne_of_beq_eq_false rfl), (fun _ => rfl), ⟨(Nat.ne_of_beq_eq_false rfl), (fun _ => rfl), trivial⟩⟩⟩ ?_
      refine s_aload_n o dX11_use_44 rfl 1 rfl ?_
      refine s_tga (x := 30) o hT tf_sorts ta_sorts (lw_all_tbl q2523) dX11_use_45 ?_
      refine s_iload_n o dX11_use_48 rfl 2 rfl ?_
      refine s_iconst o dX11_use_49 ?_
      refine r_tiast o hT tr_sorts hv2 (r32 rfl) dX11_use_50 ?_
      refine s_aload_n o dX11_use_51 rfl 1 rfl ?_
      refine s_tga (x := 29) o hT tf_values ta_values (lw_all_tbl q2522) dX11_use_52 ?_
      refine s_iload_n o dX11_use_55 rfl 2 rfl ?_
      refine s_iload_n o dX11_use_56 rfl 0 rfl ?_
      refine r_tiast o hT tr_values hv2 hv8 dX11_use_57 ?_
      refine s_aload_n o dX11_use_58 rfl 1 rfl ?_
      refine r_tgf vI rfl o hT tf_around tj_around (lw_all_tbl q2562) dX11_use_59 (fun v9 hv9 => ?_)
      refine s_iconst o dX11_use_62 ?_
      refine s_isub o dX11_use_63 ?_
      refine r_istore o dX11_use_64 rfl ⟨(Nat.ne_of_beq_eq_false rfl), (fun _ => rfl), ⟨(Nat.ne_of_beq_eq_false rfl), (fun _ => (vA_cat (mg Γ) 21)), ⟨(Nat.ne_of_beq_eq_false rfl), (fun _ => rfl), ⟨(Nat.ne_of_beq_eq_false rfl), (fun _ => rfl), trivial⟩⟩⟩⟩ ?_
      refine r_to [(0, vA (mg Γ) 21), (3, vI v8), (4, vI (w32 (v9 - 1)))] [2, 1, 0] rfl ?_
      refine st_use_66 hT o _ ?_ v8 (w32 (v9 - 1)) hv8 (w32_R _)
      · exact s_vret o rfl dX11_use_100 (fun _ hh => hh)
theorem dX11_giveNames_0 : decode cX11_giveNames 0 = .ok (.aload_n 0, 1) := by decide +kernel
theorem dX11_giveNames_1 : decode cX11_giveNames 1 = .ok (.getfield 98, 3) := by decide +kernel
theorem dX11_giveNames_4 : decode cX11_giveNames 4 = .ok (.iload_n 1, 1) := by decide +kernel
theorem dX11_giveNames_5 : decode cX11_giveNames 5 = .ok (.aload_n 0, 1) := by decide +kernel
theorem dX11_giveNames_6 : decode cX11_giveNames 6 = .ok (.getfield 474, 3) := by decide +kernel
theorem dX11_giveNames_9 : decode cX11_giveNames 9 = .ok (.iastore, 1) := by decide +kernel
theorem dX11_giveNames_10 : decode cX11_giveNames 10 = .ok (.iconst 0, 1) := by decide +kernel
theorem dX11_giveNames_11 : decode cX11_giveNames 11 = .ok (.istore_n 2, 1) := by decide +kernel
theorem dX11_giveNames_12 : decode cX11_giveNames 12 = .ok (.iload_n 2, 1) := by decide +kernel
theorem dX11_giveNames_13 : decode cX11_giveNames 13 = .ok (.aload_n 0, 1) := by decide +kernel
theorem dX11_giveNames_14 : decode cX11_giveNames 14 = .ok (.getfield 44, 3) := by decide +kernel
theorem dX11_giveNames_17 : decode cX11_giveNames 17 = .ok (.iload_n 1, 1) := by decide +kernel
theorem dX11_giveNames_18 : decode cX11_giveNames 18 = .ok (.iaload, 1) := by decide +kernel
theorem dX11_giveNames_19 : decode cX11_giveNames 19 = .ok (.if_icmp .ge 27, 3) := by decide +kernel
theorem dX11_giveNames_22 : decode cX11_giveNames 22 = .ok (.aload_n 0, 1) := by decide +kernel
theorem dX11_giveNames_23 : decode cX11_giveNames 23 = .ok (.aload_n 0, 1) := by decide +kernel
theorem dX11_giveNames_24 : decode cX11_giveNames 24 = .ok (.getfield 47, 3) := by decide +kernel
theorem dX11_giveNames_27 : decode cX11_giveNames 27 = .ok (.aload_n 0, 1) := by decide +kernel
theorem dX11_giveNames_28 : decode cX11_giveNames 28 = .ok (.getfield 41, 3) := by decide +kernel
theorem dX11_giveNames_31 : decode cX11_giveNames 31 = .ok (.iload_n 1, 1) := by decide +kernel
theorem dX11_giveNames_32 : decode cX11_giveNames 32 = .ok (.iaload, 1) := by decide +kernel
theorem dX11_giveNames_33 : decode cX11_giveNames 33 = .ok (.iload_n 2, 1) := by decide +kernel
theorem dX11_giveNames_34 : decode cX11_giveNames 34 = .ok (.iadd, 1) := by decide +kernel
theorem dX11_giveNames_35 : decode cX11_giveNames 35 = .ok (.laload, 1) := by decide +kernel
theorem dX11_giveNames_36 : decode cX11_giveNames 36 = .ok (.invokevirtual 483, 3) := by decide +kernel
theorem dX11_giveNames_39 : decode cX11_giveNames 39 = .ok (.pop, 1) := by decide +kernel
theorem dX11_giveNames_40 : decode cX11_giveNames 40 = .ok (.iinc 2 1, 3) := by decide +kernel
theorem dX11_giveNames_43 : decode cX11_giveNames 43 = .ok (.goto (-31), 3) := by decide +kernel
theorem dX11_giveNames_46 : decode cX11_giveNames 46 = .ok (.return_, 1) := by decide +kernel
theorem mw_X11_giveNames : MW yX11_giveNames (Cond.code yX11_giveNames cX11_giveNames 3 (Option.none : Option Jvm.ClassFile.FieldType)) cX11_giveNames 3 (Option.none : Option Jvm.ClassFile.FieldType) 1 := ⟨rfl, ⟨(lw_all_tbl q3144), rfl, (lw_all_tbl q173)⟩, rfl, ⟨by decide, by decide⟩, by decide +kernel⟩
abbrev okt_giveNames_12 (x : Int × Int) : Prop := R32 x.1 ∧ R32 x.2
abbrev lvt_giveNames_12 (Γ : Gm) (x : Int × Int) : List (Nat × Value) := [(0, vA (mg Γ) 21), (1, vI x.1), (2, vI x.2)]
noncomputable def t_giveNames_12b {A : Type} (k_46 : Mo TS A) (l1 : Int) (l2 : Int) : Mo TS ((Int × Int) ⊕ A) :=
  bnd (rd 22 3200 l1) fun v1 =>
  if v1 ≤ l2 then
    lo k_46
  else
    bnd (rd 21 3200 l1) fun v2 =>
    bnd (rd 24 3200 (w32 (v2 + l2))) fun v3 =>
    bnd (t_newVariable v3) fun v4 =>
    pr (.inl (l1, (w32 (l2 + 1))))
theorem st_giveNames_12b {Γ : Gm} {h : CH} {d : Nat} (hT : HT h) (o : Ok Γ "LazyForgeModel" cX11_giveNames 3 (Option.none : Option Jvm.ClassFile.FieldType) (d + 1)) {A : Type} {K : A → TS → Prop} (k_46 : Mo TS A) (hk_46 : Sx Γ (fun t => (h, t)) K 46 [] [] (k_46)) (l1 : Int) (l2 : Int) (hl1 : R32 l1) (hl2 : R32 l2) : Sx Γ (fun t => (h, t)) (KL Γ (fun t => (h, t)) okt_giveNames_12 K 12 (lvt_giveNames_12 Γ) []) 12 [(0, vA (mg Γ) 21), (1, vI l1), (2, vI l2)] [] (t_giveNames_12b k_46 l1 l2) := by
  unfold t_giveNames_12b
  refine s_iload_n o dX11_giveNames_12 rfl 2 rfl ?_
  refine s_aload_n o dX11_giveNames_13 rfl 0 rfl ?_
  refine s_tga (x := 33) o hT tf_giveCounts ta_giveCounts (lw_all_tbl q2526) dX11_giveNames_14 ?_
  refine s_iload_n o dX11_giveNames_17 rfl 1 rfl ?_
  refine r_tiald o hT tr_giveCounts hl1 dX11_giveNames_18 (fun v1 hv1 => ?_)
  refine s_icmp_ge (tgt := 46) o dX11_giveNames_19 (by decide) hl2 hv1 ?_ ?_
  · refine r_to [] [] rfl ?_
    exact s_lo hk_46
  · refine s_aload_n o dX11_giveNames_22 rfl 0 rfl ?_
    refine s_aload_n o dX11_giveNames_23 rfl 0 rfl ?_
    refine s_tga (x := 34) o hT tf_given ta_given (lw_all_tbl q2528) dX11_giveNames_24 ?_
    refine s_aload_n o dX11_giveNames_27 rfl 0 rfl ?_
    refine s_tga (x := 32) o hT tf_giveBegins ta_giveBegins (lw_all_tbl q2525) dX11_giveNames_28 ?_
    refine s_iload_n o dX11_giveNames_31 rfl 1 rfl ?_
    refine r_tiald o hT tr_giveBegins hl1 dX11_giveNames_32 (fun v2 hv2 => ?_)
    refine s_iload_n o dX11_giveNames_33 rfl 2 rfl ?_
    refine s_iadd o dX11_giveNames_34 ?_
    refine r_tlald o hT tr_given (w32_R _) dX11_giveNames_35 (fun v3 hv3 => ?_)
    refine s_cv (d := d + 0) (C := "LazyForgeModel") (As := [vJ v3]) (st := []) o (st_newVariable (mg Γ) d h hT v3 hv3) mw_X11_newVariable rfl (Or.inl (lw_all_tbl q3129)) (lw_all_tbl qs101) (lw_all_tbl q3131) (fun t => rc_t o hT t) wt_0 rfl dX11_giveNames_36 rfl (rs := fun r => [vI r]) (fun _ => rfl) (fun v4 hv4 => ?_)
    refine s_pop o dX11_giveNames_39 rfl ?_
    refine r_iinc (j := 2) o dX11_giveNames_40 rfl rfl [(0, vA (mg Γ) 21), (1, vI l1)] [0, 1] rfl ⟨(Nat.ne_of_beq_eq_false rfl), (fun _ => (vA_cat (mg Γ) 21)), ⟨(Nat.ne_of_beq_eq_false rfl), (fun _ => rfl), trivial⟩⟩ ?_
    refine s_goto (tgt := 12) o dX11_giveNames_43 (by decide) ?_
    refine r_to [(0, vA (mg Γ) 21), (1, vI l1), (2, vI (w32 (l2 + 1)))] [1, 2, 0] rfl ?_
    exact s_back (⟨hl1, (w32_R _)⟩) rfl
noncomputable def t_giveNames_12 {A : Type} (k_46 : Mo TS A) (l1 : Int) (l2 : Int) : Mo TS A := Loop (fun x => t_giveNames_12b k_46 x.1 x.2) (l1, l2)
theorem st_giveNames_12 {Γ : Gm} {h : CH} {d : Nat} (hT : HT h) (o : Ok Γ "LazyForgeModel" cX11_giveNames 3 (Option.none : Option Jvm.ClassFile.FieldType) (d + 1)) {A : Type} {K : A → TS → Prop} (k_46 : Mo TS A) (hk_46 : Sx Γ (fun t => (h, t)) K 46 [] [] (k_46)) (l1 : Int) (l2 : Int) (hl1 : R32 l1) (hl2 : R32 l2) : Sx Γ (fun t => (h, t)) K 12 [(0, vA (mg Γ) 21), (1, vI l1), (2, vI l2)] [] (t_giveNames_12 k_46 l1 l2) :=
  s_loop okt_giveNames_12 (lvt_giveNames_12 Γ) (fun x hx => st_giveNames_12b hT o k_46 hk_46 x.1 x.2 hx.1 hx.2) (x := (l1, l2)) ⟨hl1, hl2⟩
noncomputable def t_giveNames (l1 : Int) : Mo TS Int :=
  bnd (gs 50) fun v1 =>
  bnd (wr 54 3200 l1 v1) fun _ =>
  t_giveNames_12
    (pr 0) l1 0
theorem st_giveNames (g : gC) (d : Nat) (h : CH) (hT : HT h) (l1 : Int) (hl1 : R32 l1) : SF g yX11_giveNames (Cond.code yX11_giveNames cX11_giveNames 3 (Option.none : Option Jvm.ClassFile.FieldType)) (Option.none : Option Jvm.ClassFile.FieldType) (d + 1) [vA g 21, vI l1] (fun t => (h, t)) (t_giveNames l1) := by
  refine SF.of (lv := [(0, vA g 21), (1, vI l1)]) (by decide) (wt_A (wt_I wt_0)) rfl (by simp only [la_A, la_I, la_J, la_0]) (fun Γ hg hnm o => ?_)
  subst hg
  have o : Ok Γ "LazyForgeModel" cX11_giveNames 3 (Option.none : Option Jvm.ClassFile.FieldType) (d + 1) := o
  unfold t_giveNames
  refine s_aload_n o dX11_giveNames_0 rfl 0 rfl ?_
  refine s_tga (x := 51) o hT tf_firstVariables ta_firstVariables (lw_all_tbl q2558) dX11_giveNames_1 ?_
  refine s_iload_n o dX11_giveNames_4 rfl 1 rfl ?_
  refine s_aload_n o dX11_giveNames_5 rfl 0 rfl ?_
  refine r_tgf vI rfl o hT tf_variables tj_variables (lw_all_tbl q2554) dX11_giveNames_6 (fun v1 hv1 => ?_)
  refine r_tiast o hT tr_firstVariables hl1 hv1 dX11_giveNames_9 ?_
  refine s_iconst o dX11_giveNames_10 ?_
  refine r_istore_n o dX11_giveNames_11 rfl rfl ⟨(Nat.ne_of_beq_eq_false rfl), (fun _ => (vA_cat (mg Γ) 21)), ⟨(Nat.ne_of_beq_eq_false rfl), (fun _ => rfl), trivial⟩⟩ ?_
  refine r_to [(0, vA (mg Γ) 21), (1, vI l1), (2, vI 0)] [1, 2, 0] rfl ?_
  refine st_giveNames_12 hT o _ ?_ l1 0 hl1 (r32 rfl)
  · exact s_vret o rfl dX11_giveNames_46 (fun _ hh => hh)
theorem dX11_nextChild_0 : decode cX11_nextChild 0 = .ok (.aload_n 0, 1) := by decide +kernel
theorem dX11_nextChild_1 : decode cX11_nextChild 1 = .ok (.getfield 110, 3) := by decide +kernel
theorem dX11_nextChild_4 : decode cX11_nextChild 4 = .ok (.iload_n 1, 1) := by decide +kernel
theorem dX11_nextChild_5 : decode cX11_nextChild 5 = .ok (.iaload, 1) := by decide +kernel
theorem dX11_nextChild_6 : decode cX11_nextChild 6 = .ok (.istore_n 2, 1) := by decide +kernel
theorem dX11_nextChild_7 : decode cX11_nextChild 7 = .ok (.aload_n 0, 1) := by decide +kernel
theorem dX11_nextChild_8 : decode cX11_nextChild 8 = .ok (.getfield 113, 3) := by decide +kernel
theorem dX11_nextChild_11 : decode cX11_nextChild 11 = .ok (.iload_n 1, 1) := by decide +kernel
theorem dX11_nextChild_12 : decode cX11_nextChild 12 = .ok (.iaload, 1) := by decide +kernel
theorem dX11_nextChild_13 : decode cX11_nextChild 13 = .ok (.istore_n 3, 1) := by decide +kernel
theorem dX11_nextChild_14 : decode cX11_nextChild 14 = .ok (.aload_n 0, 1) := by decide +kernel
theorem dX11_nextChild_15 : decode cX11_nextChild 15 = .ok (.getfield 116, 3) := by decide +kernel
theorem dX11_nextChild_18 : decode cX11_nextChild 18 = .ok (.iload_n 1, 1) := by decide +kernel
theorem dX11_nextChild_19 : decode cX11_nextChild 19 = .ok (.iaload, 1) := by decide +kernel
theorem dX11_nextChild_20 : decode cX11_nextChild 20 = .ok (.istore 4, 2) := by decide +kernel
theorem dX11_nextChild_22 : decode cX11_nextChild 22 = .ok (.aload_n 0, 1) := by decide +kernel
theorem dX11_nextChild_23 : decode cX11_nextChild 23 = .ok (.iload_n 2, 1) := by decide +kernel
theorem dX11_nextChild_24 : decode cX11_nextChild 24 = .ok (.iload_n 3, 1) := by decide +kernel
theorem dX11_nextChild_25 : decode cX11_nextChild 25 = .ok (.iload 4, 2) := by decide +kernel
theorem dX11_nextChild_27 : decode cX11_nextChild 27 = .ok (.invokevirtual 498, 3) := by decide +kernel
theorem dX11_nextChild_30 : decode cX11_nextChild 30 = .ok (.istore 5, 2) := by decide +kernel
theorem dX11_nextChild_32 : decode cX11_nextChild 32 = .ok (.aload_n 0, 1) := by decide +kernel
theorem dX11_nextChild_33 : decode cX11_nextChild 33 = .ok (.getfield 16, 3) := by decide +kernel
theorem dX11_nextChild_36 : decode cX11_nextChild 36 = .ok (.iload_n 2, 1) := by decide +kernel
theorem dX11_nextChild_37 : decode cX11_nextChild 37 = .ok (.iaload, 1) := by decide +kernel
theorem dX11_nextChild_38 : decode cX11_nextChild 38 = .ok (.iconst 3, 1) := by decide +kernel
theorem dX11_nextChild_39 : decode cX11_nextChild 39 = .ok (.if_icmp .ne 15, 3) := by decide +kernel
theorem dX11_nextChild_42 : decode cX11_nextChild 42 = .ok (.iload_n 3, 1) := by decide +kernel
theorem dX11_nextChild_43 : decode cX11_nextChild 43 = .ok (.ifCond .ne 7, 3) := by decide +kernel
theorem dX11_nextChild_46 : decode cX11_nextChild 46 = .ok (.iconst 1, 1) := by decide +kernel
theorem dX11_nextChild_47 : decode cX11_nextChild 47 = .ok (.goto 26, 3) := by decide +kernel
theorem dX11_nextChild_50 : decode cX11_nextChild 50 = .ok (.iconst 0, 1) := by decide +kernel
theorem dX11_nextChild_51 : decode cX11_nextChild 51 = .ok (.goto 22, 3) := by decide +kernel
theorem dX11_nextChild_54 : decode cX11_nextChild 54 = .ok (.aload_n 0, 1) := by decide +kernel
theorem dX11_nextChild_55 : decode cX11_nextChild 55 = .ok (.getfield 16, 3) := by decide +kernel
theorem dX11_nextChild_58 : decode cX11_nextChild 58 = .ok (.iload_n 2, 1) := by decide +kernel
theorem dX11_nextChild_59 : decode cX11_nextChild 59 = .ok (.iaload, 1) := by decide +kernel
theorem dX11_nextChild_60 : decode cX11_nextChild 60 = .ok (.ifCond .ne 12, 3) := by decide +kernel
theorem dX11_nextChild_63 : decode cX11_nextChild 63 = .ok (.iload 4, 2) := by decide +kernel
theorem dX11_nextChild_65 : decode cX11_nextChild 65 = .ok (.ifCond .ge 7, 3) := by decide +kernel
theorem dX11_nextChild_68 : decode cX11_nextChild 68 = .ok (.iconst 1, 1) := by decide +kernel
theorem dX11_nextChild_69 : decode cX11_nextChild 69 = .ok (.goto 4, 3) := by decide +kernel
theorem dX11_nextChild_72 : decode cX11_nextChild 72 = .ok (.iconst 0, 1) := by decide +kernel
theorem dX11_nextChild_73 : decode cX11_nextChild 73 = .ok (.istore 6, 2) := by decide +kernel
theorem dX11_nextChild_75 : decode cX11_nextChild 75 = .ok (.aload_n 0, 1) := by decide +kernel
theorem dX11_nextChild_76 : decode cX11_nextChild 76 = .ok (.getfield 113, 3) := by decide +kernel
theorem dX11_nextChild_79 : decode cX11_nextChild 79 = .ok (.iload_n 1, 1) := by decide +kernel
theorem dX11_nextChild_80 : decode cX11_nextChild 80 = .ok (.iload 6, 2) := by decide +kernel
theorem dX11_nextChild_82 : decode cX11_nextChild 82 = .ok (.ifCond .eq 17, 3) := by decide +kernel
theorem dX11_nextChild_85 : decode cX11_nextChild 85 = .ok (.aload_n 0, 1) := by decide +kernel
theorem dX11_nextChild_86 : decode cX11_nextChild 86 = .ok (.getfield 16, 3) := by decide +kernel
theorem dX11_nextChild_89 : decode cX11_nextChild 89 = .ok (.iload_n 2, 1) := by decide +kernel
theorem dX11_nextChild_90 : decode cX11_nextChild 90 = .ok (.iaload, 1) := by decide +kernel
theorem dX11_nextChild_91 : decode cX11_nextChild 91 = .ok (.ifCond .ne 8, 3) := by decide +kernel
theorem dX11_nextChild_94 : decode cX11_nextChild 94 = .ok (.bipush 100, 2) := by decide +kernel
theorem dX11_nextChild_96 : decode cX11_nextChild 96 = .ok (.goto 6, 3) := by decide +kernel
theorem dX11_nextChild_99 : decode cX11_nextChild 99 = .ok (.iload_n 3, 1) := by decide +kernel
theorem dX11_nextChild_100 : decode cX11_nextChild 100 = .ok (.iconst 1, 1) := by decide +kernel
theorem dX11_nextChild_101 : decode cX11_nextChild 101 = .ok (.iadd, 1) := by decide +kernel
theorem dX11_nextChild_102 : decode cX11_nextChild 102 = .ok (.iastore, 1) := by decide +kernel
theorem dX11_nextChild_103 : decode cX11_nextChild 103 = .ok (.aload_n 0, 1) := by decide +kernel
theorem dX11_nextChild_104 : decode cX11_nextChild 104 = .ok (.getfield 16, 3) := by decide +kernel
theorem dX11_nextChild_107 : decode cX11_nextChild 107 = .ok (.iload_n 2, 1) := by decide +kernel
theorem dX11_nextChild_108 : decode cX11_nextChild 108 = .ok (.iaload, 1) := by decide +kernel
theorem dX11_nextChild_109 : decode cX11_nextChild 109 = .ok (.invokestatic 502, 3) := by decide +kernel
theorem dX11_nextChild_112 : decode cX11_nextChild 112 = .ok (.ifCond .eq 26, 3) := by decide +kernel
theorem dX11_nextChild_115 : decode cX11_nextChild 115 = .ok (.iload 6, 2) := by decide +kernel
theorem dX11_nextChild_117 : decode cX11_nextChild 117 = .ok (.ifCond .ne 21, 3) := by decide +kernel
theorem dX11_nextChild_120 : decode cX11_nextChild 120 = .ok (.iload 4, 2) := by decide +kernel
theorem dX11_nextChild_122 : decode cX11_nextChild 122 = .ok (.ifCond .lt 16, 3) := by decide +kernel
theorem dX11_nextChild_125 : decode cX11_nextChild 125 = .ok (.aload_n 0, 1) := by decide +kernel
theorem dX11_nextChild_126 : decode cX11_nextChild 126 = .ok (.getfield 116, 3) := by decide +kernel
theorem dX11_nextChild_129 : decode cX11_nextChild 129 = .ok (.iload_n 1, 1) := by decide +kernel
theorem dX11_nextChild_130 : decode cX11_nextChild 130 = .ok (.aload_n 0, 1) := by decide +kernel
theorem dX11_nextChild_131 : decode cX11_nextChild 131 = .ok (.getfield 25, 3) := by decide +kernel
theorem dX11_nextChild_134 : decode cX11_nextChild 134 = .ok (.iload 4, 2) := by decide +kernel
theorem dX11_nextChild_136 : decode cX11_nextChild 136 = .ok (.iaload, 1) := by decide +kernel
theorem dX11_nextChild_137 : decode cX11_nextChild 137 = .ok (.iastore, 1) := by decide +kernel
theorem dX11_nextChild_138 : decode cX11_nextChild 138 = .ok (.iload 5, 2) := by decide +kernel
theorem dX11_nextChild_140 : decode cX11_nextChild 140 = .ok (.ireturn, 1) := by decide +kernel
theorem mw_X11_nextChild : MW yX11_nextChild (Cond.code yX11_nextChild cX11_nextChild 7 (Option.some Jvm.ClassFile.FieldType.int)) cX11_nextChild 7 (Option.some Jvm.ClassFile.FieldType.int) 1 := ⟨rfl, ⟨(lw_all_tbl q3148), rfl, (lw_all_tbl q173)⟩, rfl, ⟨by decide, by decide⟩, by decide +kernel⟩
noncomputable def t_nextChild_102  (l1 : Int) (l2 : Int) (l4 : Int) (l5 : Int) (l6 : Int) (k0 : Int) (k1 : Int) : Mo TS Int :=
  bnd (wr 61 3200 k1 k0) fun _ =>
  bnd (rd 13 3200 l2) fun v1 =>
  bnd (t_hasRow v1) fun v2 =>
  if v2 = 0 then
    pr l5
  else
    if ¬ l6 = 0 then
      pr l5
    else
      if l4 < 0 then
        pr l5
      else
        bnd (rd 16 3200 l4) fun v3 =>
        bnd (wr 62 3200 l1 v3) fun _ =>
        pr l5
theorem st_nextChild_102 {Γ : Gm} {h : CH} {d : Nat} (hT : HT h) (o : Ok Γ "LazyForgeModel" cX11_nextChild 7 (Option.some Jvm.ClassFile.FieldType.int) (d + 1))   (l1 : Int) (l2 : Int) (l4 : Int) (l5 : Int) (l6 : Int) (k0 : Int) (k1 : Int) (hl1 : R32 l1) (hl2 : R32 l2) (hl4 : R32 l4) (hl5 : R32 l5) (hl6 : rg .boolean l6) (hk0 : R32 k0) (hk1 : R32 k1) : Sx Γ (fun t => (h, t)) (fun a s => mt Γ = (0, a, ((h, s) : Wd))) 102 [(0, vA (mg Γ) 21), (1, vI l1), (2, vI l2), (4, vI l4), (5, vI l5), (6, vI l6)] [vI k0, vI k1, vA (mg Γ) 56] (t_nextChild_102 l1 l2 l4 l5 l6 k0 k1) := by
  unfold t_nextChild_102
  refine r_tiast o hT tr_walkStages hk1 hk0 dX11_nextChild_102 ?_
  refine s_aload_n o dX11_nextChild_103 rfl 0 rfl ?_
  refine s_tga (x := 24) o hT tf_kinds ta_kinds (lw_all_tbl q2517) dX11_nextChild_104 ?_
  refine s_iload_n o dX11_nextChild_107 rfl 2 rfl ?_
  refine r_tiald o hT tr_kinds hl2 dX11_nextChild_108 (fun v1 hv1 => ?_)
  refine s_cs (d := d + 0) (As := [vI v1]) (st := []) o (st_hasRow (mg Γ) d h v1 hv1) mw_X11_hasRow rfl (Or.inl (lw_all_tbl q3122)) (lw_all_tbl q3123) wt_0 rfl dX11_nextChild_109 rfl (rs := fun r => [vI r]) (fun _ => rfl) (fun v2 hv2 => ?_)
  refine s_if_eq (tgt := 138) o dX11_nextChild_112 (by decide) (rZ (hv2 _ rfl)) ?_ ?_
  · refine s_iload o dX11_nextChild_138 4 rfl ?_
    exact s_iret o rfl i_int hl5 dX11_nextChild_140 (fun _ hh => hh)
  · refine s_iload o dX11_nextChild_115 5 rfl ?_
    refine s_if_ne (tgt := 138) o dX11_nextChild_117 (by decide) (rZ hl6) ?_ ?_
    · refine s_iload o dX11_nextChild_138 4 rfl ?_
      exact s_iret o rfl i_int hl5 dX11_nextChild_140 (fun _ hh => hh)
    · refine s_iload o dX11_nextChild_120 3 rfl ?_
      refine s_if_lt (tgt := 138) o dX11_nextChild_122 (by decide) hl4 ?_ ?_
      · refine s_iload o dX11_nextChild_138 4 rfl ?_
        exact s_iret o rfl i_int hl5 dX11_nextChild_140 (fun _ hh => hh)
      · refine s_aload_n o dX11_nextChild_125 rfl 0 rfl ?_
        refine s_tga (x := 57) o hT tf_walkChildren ta_walkChildren (lw_all_tbl q2566) dX11_nextChild_126 ?_
        refine s_iload_n o dX11_nextChild_129 rfl 1 rfl ?_
        refine s_aload_n o dX11_nextChild_130 rfl 0 rfl ?_
        refine s_tga (x := 27) o hT tf_nexts ta_nexts (lw_all_tbl q2520) dX11_nextChild_131 ?_
        refine s_iload o dX11_nextChild_134 3 rfl ?_
        refine r_tiald o hT tr_nexts hl4 dX11_nextChild_136 (fun v3 hv3 => ?_)
        refine r_tiast o hT tr_walkChildren hl1 hv3 dX11_nextChild_137 ?_
        refine s_iload o dX11_nextChild_138 4 rfl ?_
        exact s_iret o rfl i_int hl5 dX11_nextChild_140 (fun _ hh => hh)
noncomputable def t_nextChild_99  (l1 : Int) (l2 : Int) (l3 : Int) (l4 : Int) (l5 : Int) (l6 : Int) (k0 : Int) : Mo TS Int :=
  t_nextChild_102 l1 l2 l4 l5 l6 (w32 (l3 + 1)) k0
theorem st_nextChild_99 {Γ : Gm} {h : CH} {d : Nat} (hT : HT h) (o : Ok Γ "LazyForgeModel" cX11_nextChild 7 (Option.some Jvm.ClassFile.FieldType.int) (d + 1))   (l1 : Int) (l2 : Int) (l3 : Int) (l4 : Int) (l5 : Int) (l6 : Int) (k0 : Int) (hl1 : R32 l1) (hl2 : R32 l2) (hl3 : R32 l3) (hl4 : R32 l4) (hl5 : R32 l5) (hl6 : rg .boolean l6) (hk0 : R32 k0) : Sx Γ (fun t => (h, t)) (fun a s => mt Γ = (0, a, ((h, s) : Wd))) 99 [(0, vA (mg Γ) 21), (1, vI l1), (2, vI l2), (3, vI l3), (4, vI l4), (5, vI l5), (6, vI l6)] [vI k0, vA (mg Γ) 56] (t_nextChild_99 l1 l2 l3 l4 l5 l6 k0) := by
  unfold t_nextChild_99
  refine s_iload_n o dX11_nextChild_99 rfl 3 rfl ?_
  refine s_iconst o dX11_nextChild_100 ?_
  refine s_iadd o dX11_nextChild_101 ?_
  refine r_to [(0, vA (mg Γ) 21), (1, vI l1), (2, vI l2), (4, vI l4), (5, vI l5), (6, vI l6)] [0, 1, 2, 4, 5, 6] rfl ?_
  exact st_nextChild_102 hT o l1 l2 l4 l5 l6 (w32 (l3 + 1)) k0 hl1 hl2 hl4 hl5 hl6 (w32_R _) hk0
noncomputable def t_nextChild_73  (l1 : Int) (l2 : Int) (l3 : Int) (l4 : Int) (l5 : Int) (k0 : Int) : Mo TS Int :=
  if k0 = 0 then
    t_nextChild_99 l1 l2 l3 l4 l5 k0 l1
  else
    bnd (rd 13 3200 l2) fun v1 =>
    if ¬ v1 = 0 then
      t_nextChild_99 l1 l2 l3 l4 l5 k0 l1
    else
      t_nextChild_102 l1 l2 l4 l5 k0 100 l1
theorem st_nextChild_73 {Γ : Gm} {h : CH} {d : Nat} (hT : HT h) (o : Ok Γ "LazyForgeModel" cX11_nextChild 7 (Option.some Jvm.ClassFile.FieldType.int) (d + 1))   (l1 : Int) (l2 : Int) (l3 : Int) (l4 : Int) (l5 : Int) (k0 : Int) (hl1 : R32 l1) (hl2 : R32 l2) (hl3 : R32 l3) (hl4 : R32 l4) (hl5 : R32 l5) (hk0 : rg .boolean k0) : Sx Γ (fun t => (h, t)) (fun a s => mt Γ = (0, a, ((h, s) : Wd))) 73 [(0, vA (mg Γ) 21), (1, vI l1), (2, vI l2), (3, vI l3), (4, vI l4), (5, vI l5)] [vI k0] (t_nextChild_73 l1 l2 l3 l4 l5 k0) := by
  unfold t_nextChild_73
  refine r_istore o dX11_nextChild_73 rfl ⟨(Nat.ne_of_beq_eq_false rfl), (fun _ => (vA_cat (mg Γ) 21)), ⟨(Nat.ne_of_beq_eq_false rfl), (fun _ => rfl), ⟨(Nat.ne_of_beq_eq_false rfl), (fun _ => rfl), ⟨(Nat.ne_of_beq_eq_false rfl), (fun _ => rfl), ⟨(Nat.ne_of_beq_eq_false rfl), (fun _ => rfl), ⟨(Nat.ne_of_beq_eq_false rfl), (fun _ => rfl), trivial⟩⟩⟩⟩⟩⟩ ?_
  refine s_aload_n o dX11_nextChild_75 rfl 1 rfl ?_
  refine s_tga (x := 56) o hT tf_walkStages ta_walkStages (lw_all_tbl q2565) dX11_nextChild_76 ?_
  refine s_iload_n o dX11_nextChild_79 rfl 2 rfl ?_
  refine s_iload o dX11_nextChild_80 0 rfl ?_
  refine s_if_eq (tgt := 99) o dX11_nextChild_82 (by decide) (rZ hk0) ?_ ?_
  · refine r_to [(0, vA (mg Γ) 21), (1, vI l1), (2, vI l2), (3, vI l3), (4, vI l4), (5, vI l5), (6, vI k0)] [1, 2, 3, 4, 5, 6, 0] rfl ?_
    exact st_nextChild_99 hT o l1 l2 l3 l4 l5 k0 l1 hl1 hl2 hl3 hl4 hl5 hk0 hl1
  · refine s_aload_n o dX11_nextChild_85 rfl 1 rfl ?_
    refine s_tga (x := 24) o hT tf_kinds ta_kinds (lw_all_tbl q2517) dX11_nextChild_86 ?_
    refine s_iload_n o dX11_nextChild_89 rfl 3 rfl ?_
    refine r_tiald o hT tr_kinds hl2 dX11_nextChild_90 (fun v1 hv1 => ?_)
    refine s_if_ne (tgt := 99) o dX11_nextChild_91 (by decide) hv1 ?_ ?_
    · refine r_to [(0, vA (mg Γ) 21), (1, vI l1), (2, vI l2), (3, vI l3), (4, vI l4), (5, vI l5), (6, vI k0)] [1, 2, 3, 4, 5, 6, 0] rfl ?_
      exact st_nextChild_99 hT o l1 l2 l3 l4 l5 k0 l1 hl1 hl2 hl3 hl4 hl5 hk0 hl1
    · refine s_bipush o dX11_nextChild_94 rfl ?_
      refine s_goto (tgt := 102) o dX11_nextChild_96 (by decide) ?_
      refine r_to [(0, vA (mg Γ) 21), (1, vI l1), (2, vI l2), (4, vI l4), (5, vI l5), (6, vI k0)] [1, 2, 3, 5, 6, 0] rfl ?_
      exact st_nextChild_102 hT o l1 l2 l4 l5 k0 100 l1 hl1 hl2 hl4 hl5 hk0 (r32 rfl) hl1
noncomputable def t_nextChild_72  (l1 : Int) (l2 : Int) (l3 : Int) (l4 : Int) (l5 : Int) : Mo TS Int :=
  t_nextChild_73 l1 l2 l3 l4 l5 0
theorem st_nextChild_72 {Γ : Gm} {h : CH} {d : Nat} (hT : HT h) (o : Ok Γ "LazyForgeModel" cX11_nextChild 7 (Option.some Jvm.ClassFile.FieldType.int) (d + 1))   (l1 : Int) (l2 : Int) (l3 : Int) (l4 : Int) (l5 : Int) (hl1 : R32 l1) (hl2 : R32 l2) (hl3 : R32 l3) (hl4 : R32 l4) (hl5 : R32 l5) : Sx Γ (fun t => (h, t)) (fun a s => mt Γ = (0, a, ((h, s) : Wd))) 72 [(0, vA (mg Γ) 21), (1, vI l1), (2, vI l2), (3, vI l3), (4, vI l4), (5, vI l5)] [] (t_nextChild_72 l1 l2 l3 l4 l5) := by
  unfold t_nextChild_72
  refine s_iconst o dX11_nextChild_72 ?_
  exact st_nextChild_73 hT o l1 l2 l3 l4 l5 0 hl1 hl2 hl3 hl4 hl5 (Or.inl rfl)
noncomputable def t_nextChild (l1 : Int) : Mo TS Int :=
  bnd (rd 60 3200 l1) fun v1 =>
  bnd (rd 61 3200 l1) fun v2 =>
  bnd (rd 62 3200 l1) fun v3 =>
  bnd (t_childAt v1 v2 v3) fun v4 =>
  bnd (rd 13 3200 v1) fun v5 =>
  if ¬ v5 = 3 then
    bnd (rd 13 3200 v1) fun v6 =>
    if ¬ v6 = 0 then
      t_nextChild_72 l1 v1 v2 v3 v4
    else
      if 0 ≤ v3 then
        t_nextChild_72 l1 v1 v2 v3 v4
      else
        t_nextChild_73 l1 v1 v2 v3 v4 1
  else
    if ¬ v2 = 0 then
      t_nextChild_73 l1 v1 v2 v3 v4 0
    else
      t_nextChild_73 l1 v1 v2 v3 v4 1
theorem st_nextChild (g : gC) (d : Nat) (h : CH) (hT : HT h) (l1 : Int) (hl1 : R32 l1) : SF g yX11_nextChild (Cond.code yX11_nextChild cX11_nextChild 7 (Option.some Jvm.ClassFile.FieldType.int)) (Option.some Jvm.ClassFile.FieldType.int) (d + 1) [vA g 21, vI l1] (fun t => (h, t)) (t_nextChild l1) := by
  refine SF.of (lv := [(0, vA g 21), (1, vI l1)]) (by decide) (wt_A (wt_I wt_0)) rfl (by simp only [la_A, la_I, la_J, la_0]) (fun Γ hg hnm o => ?_)
  subst hg
  have o : Ok Γ "LazyForgeModel" cX11_nextChild 7 (Option.some Jvm.ClassFile.FieldType.int) (d + 1) := o
  unfold t_nextChild
  refine s_aload_n o dX11_nextChild_0 rfl 0 rfl ?_
  refine s_tga (x := 55) o hT tf_walk ta_walk (lw_all_tbl q2564) dX11_nextChild_1 ?_
  refine s_iload_n o dX11_nextChild_4 rfl 1 rfl ?_
  refine r_tiald o hT tr_walk hl1 dX11_nextChild_5 (fun v1 hv1 => ?_)
  refine r_istore_n o dX11_nextChild_6 rfl rfl ⟨(Nat.ne_of_beq_eq_false rfl), (fun _ => (vA_cat (mg Γ) 21)), ⟨(Nat.ne_of_beq_eq_false rfl), (fun _ => rfl), trivial⟩⟩ ?_
  refine s_aload_n o dX11_nextChild_7 rfl 1 rfl ?_
  refine s_tga (x := 56) o hT tf_walkStages ta_walkStages (lw_all_tbl q2565) dX11_nextChild_8 ?_
  refine s_iload_n o dX11_nextChild_11 rfl 2 rfl ?_
  refine r_tiald o hT tr_walkStages hl1 dX11_nextChild_12 (fun v2 hv2 => ?_)
  refine r_istore_n o dX11_nextChild_13 rfl rfl ⟨(Nat.ne_of_beq_eq_false rfl), (fun _ => rfl), ⟨(Nat.ne_of_beq_eq_false rfl), (fun _ => (vA_cat (mg Γ) 21)), ⟨(Nat.ne_of_beq_eq_false rfl), (fun _ => rfl), trivial⟩⟩⟩ ?_
  refine s_aload_n o dX11_nextChild_14 rfl 2 rfl ?_
  refine s_tga (x := 57) o hT tf_walkChildren ta_walkChildren (lw_all_tbl q2566) dX11_nextChild_15 ?_
  refine s_iload_n o dX11_nextChild_18 rfl 3 rfl ?_
  refine r_tiald o hT tr_walkChildren hl1 dX11_nextChild_19 (fun v3 hv3 => ?_)
  refine r_istore o dX11_nextChild_20 rfl ⟨(Nat.ne_of_beq_eq_false rfl), (fun _ => rfl), ⟨(Nat.ne_of_beq_eq_false rfl), (fun _ => rfl), ⟨(Nat.ne_of_beq_eq_false rfl), (fun _ => (vA_cat (mg Γ) 21)), ⟨(Nat.ne_of_beq_eq_false rfl), (fun _ => rfl), trivial⟩⟩⟩⟩ ?_
  refine s_aload_n o dX11_nextChild_22 rfl 3 rfl ?_
  refine s_iload_n o dX11_nextChild_23 rfl 2 rfl ?_
  refine s_iload_n o dX11_nextChild_24 rfl 1 rfl ?_
  refine s_iload o dX11_nextChild_25 0 rfl ?_
  refine s_cv (d := d + 0) (C := "LazyForgeModel") (As := [vI v1, vI v2, vI v3]) (st := []) o (st_childAt (mg Γ) d h hT v1 v2 v3 hv1 hv2 hv3) mw_X11_childAt rfl (Or.inl (lw_all_tbl q3149)) (lw_all_tbl qs106) (lw_all_tbl q3151) (fun t => rc_t o hT t) wt_0 rfl dX11_nextChild_27 rfl (rs := fun r => [vI r]) (fun _ => rfl) (fun v4 hv4 => ?_)
  refine r_istore o dX11_nextChild_30 rfl ⟨(Nat.ne_of_beq_eq_false rfl), (fun _ => rfl), ⟨(Nat.ne_of_beq_eq_false rfl), (fun _ => rfl), ⟨(Nat.ne_of_beq_eq_false rfl), (fun _ => rfl), ⟨(Nat.ne_of_beq_eq_false rfl), (fun _ => (vA_cat (mg Γ) 21)), ⟨(Nat.ne_of_beq_eq_false rfl), (fun _ => rfl), trivial⟩⟩⟩⟩⟩ ?_
  refine s_aload_n o dX11_nextChild_32 rfl 4 rfl ?_
  refine s_tga (x := 24) o hT tf_kinds ta_kinds (lw_all_tbl q2517) dX11_nextChild_33 ?_
  refine s_iload_n o dX11_nextChild_36 rfl 3 rfl ?_
  refine r_tiald o hT tr_kinds hv1 dX11_nextChild_37 (fun v5 hv5 => ?_)
  refine s_iconst o dX11_nextChild_38 ?_
  refine s_icmp_ne (tgt := 54) o dX11_nextChild_39 (by decide) hv5 (r32 rfl) ?_ ?_
  · refine s_aload_n o dX11_nextChild_54 rfl 4 rfl ?_
    refine s_tga (x := 24) o hT tf_kinds ta_kinds (lw_all_tbl q2517) dX11_nextChild_55 ?_
    refine s_iload_n o dX11_nextChild_58 rfl 3 rfl ?_
    refine r_tiald o hT tr_kinds hv1 dX11_nextChild_59 (fun v6 hv6 => ?_)
    refine s_if_ne (tgt := 72) o dX11_nextChild_60 (by decide) hv6 ?_ ?_
    · refine r_to [(0, vA (mg Γ) 21), (1, vI l1), (2, vI v1), (3, vI v2), (4, vI v3), (5, vI v4)] [4, 5, 3, 2, 1, 0] rfl ?_
      exact st_nextChild_72 hT o l1 v1 v2 v3 v4 hl1 hv1 hv2 hv3 (hv4 _ rfl)
    · refine s_iload o dX11_nextChild_63 1 rfl ?_
      refine s_if_ge (tgt := 72) o dX11_nextChild_65 (by decide) hv3 ?_ ?_
      · refine r_to [(0, vA (mg Γ) 21), (1, vI l1), (2, vI v1), (3, vI v2), (4, vI v3), (5, vI v4)] [4, 5, 3, 2, 1, 0] rfl ?_
        exact st_nextChild_72 hT o l1 v1 v2 v3 v4 hl1 hv1 hv2 hv3 (hv4 _ rfl)
      · refine s_iconst o dX11_nextChild_68 ?_
        refine s_goto (tgt := 73) o dX11_nextChild_69 (by decide) ?_
        refine r_to [(0, vA (mg Γ) 21), (1, vI l1), (2, vI v1), (3, vI v2), (4, vI v3), (5, vI v4)] [4, 5, 3, 2, 1, 0] rfl ?_
        exact st_nextChild_73 hT o l1 v1 v2 v3 v4 1 hl1 hv1 hv2 hv3 (hv4 _ rfl) (Or.inr rfl)
  · refine s_iload_n o dX11_nextChild_42 rfl 2 rfl ?_
    refine s_if_ne (tgt := 50) o dX11_nextChild_43 (by decide) hv2 ?_ ?_
    · refine s_iconst o dX11_nextChild_50 ?_
      refine s_goto (tgt := 73) o dX11_nextChild_51 (by decide) ?_
      refine r_to [(0, vA (mg Γ) 21), (1, vI l1), (2, vI v1), (3, vI v2), (4, vI v3), (5, vI v4)] [4, 5, 3, 2, 1, 0] rfl ?_
      exact st_nextChild_73 hT o l1 v1 v2 v3 v4 0 hl1 hv1 hv2 hv3 (hv4 _ rfl) (Or.inl rfl)
    · refine s_iconst o dX11_nextChild_46 ?_
      refine s_goto (tgt := 73) o dX11_nextChild_47 (by decide) ?_
      refine r_to [(0, vA (mg Γ) 21), (1, vI l1), (2, vI v1), (3, vI v2), (4, vI v3), (5, vI v4)] [4, 5, 3, 2, 1, 0] rfl ?_
      exact st_nextChild_73 hT o l1 v1 v2 v3 v4 1 hl1 hv1 hv2 hv3 (hv4 _ rfl) (Or.inr rfl)
theorem dX11_mainFunction_0 : decode cX11_mainFunction 0 = .ok (.iconst (-1), 1) := by decide +kernel
theorem dX11_mainFunction_1 : decode cX11_mainFunction 1 = .ok (.istore_n 1, 1) := by decide +kernel
theorem dX11_mainFunction_2 : decode cX11_mainFunction 2 = .ok (.iconst 0, 1) := by decide +kernel
theorem dX11_mainFunction_3 : decode cX11_mainFunction 3 = .ok (.istore_n 2, 1) := by decide +kernel
theorem dX11_mainFunction_4 : decode cX11_mainFunction 4 = .ok (.iload_n 2, 1) := by decide +kernel
theorem dX11_mainFunction_5 : decode cX11_mainFunction 5 = .ok (.aload_n 0, 1) := by decide +kernel
theorem dX11_mainFunction_6 : decode cX11_mainFunction 6 = .ok (.getfield 462, 3) := by decide +kernel
theorem dX11_mainFunction_9 : decode cX11_mainFunction 9 = .ok (.if_icmp .ge 37, 3) := by decide +kernel
theorem dX11_mainFunction_12 : decode cX11_mainFunction 12 = .ok (.aload_n 0, 1) := by decide +kernel
theorem dX11_mainFunction_13 : decode cX11_mainFunction 13 = .ok (.getfield 50, 3) := by decide +kernel
theorem dX11_mainFunction_16 : decode cX11_mainFunction 16 = .ok (.iload_n 2, 1) := by decide +kernel
theorem dX11_mainFunction_17 : decode cX11_mainFunction 17 = .ok (.laload, 1) := by decide +kernel
theorem dX11_mainFunction_18 : decode cX11_mainFunction 18 = .ok (.bipush 109, 2) := by decide +kernel
theorem dX11_mainFunction_20 : decode cX11_mainFunction 20 = .ok (.bipush 97, 2) := by decide +kernel
theorem dX11_mainFunction_22 : decode cX11_mainFunction 22 = .ok (.bipush 105, 2) := by decide +kernel
theorem dX11_mainFunction_24 : decode cX11_mainFunction 24 = .ok (.bipush 110, 2) := by decide +kernel
theorem dX11_mainFunction_26 : decode cX11_mainFunction 26 = .ok (.iconst 0, 1) := by decide +kernel
theorem dX11_mainFunction_27 : decode cX11_mainFunction 27 = .ok (.invokestatic 257, 3) := by decide +kernel
theorem dX11_mainFunction_30 : decode cX11_mainFunction 30 = .ok (.lcmp, 1) := by decide +kernel
theorem dX11_mainFunction_31 : decode cX11_mainFunction 31 = .ok (.ifCond .ne 7, 3) := by decide +kernel
theorem dX11_mainFunction_34 : decode cX11_mainFunction 34 = .ok (.iload_n 2, 1) := by decide +kernel
theorem dX11_mainFunction_35 : decode cX11_mainFunction 35 = .ok (.goto 4, 3) := by decide +kernel
theorem dX11_mainFunction_38 : decode cX11_mainFunction 38 = .ok (.iload_n 1, 1) := by decide +kernel
theorem dX11_mainFunction_39 : decode cX11_mainFunction 39 = .ok (.istore_n 1, 1) := by decide +kernel
theorem dX11_mainFunction_40 : decode cX11_mainFunction 40 = .ok (.iinc 2 1, 3) := by decide +kernel
theorem dX11_mainFunction_43 : decode cX11_mainFunction 43 = .ok (.goto (-39), 3) := by decide +kernel
theorem dX11_mainFunction_46 : decode cX11_mainFunction 46 = .ok (.iload_n 1, 1) := by decide +kernel
theorem dX11_mainFunction_47 : decode cX11_mainFunction 47 = .ok (.ireturn, 1) := by decide +kernel
theorem mw_X11_mainFunction : MW yX11_mainFunction (Cond.code yX11_mainFunction cX11_mainFunction 3 (Option.some Jvm.ClassFile.FieldType.int)) cX11_mainFunction 3 (Option.some Jvm.ClassFile.FieldType.int) 0 := ⟨rfl, ⟨(lw_all_tbl q3164), rfl, (lw_all_tbl q173)⟩, rfl, ⟨by decide, by decide⟩, by decide +kernel⟩
abbrev okt_mainFunction_4 (x : Int × Int) : Prop := R32 x.1 ∧ R32 x.2
abbrev lvt_mainFunction_4 (Γ : Gm) (x : Int × Int) : List (Nat × Value) := [(0, vA (mg Γ) 21), (1, vI x.1), (2, vI x.2)]
noncomputable def t_mainFunction_39 {A : Type} (k_46 : Int → Mo TS A) (l2 : Int) (k0 : Int) : Mo TS ((Int × Int) ⊕ A) :=
  pr (.inl (k0, (w32 (l2 + 1))))
theorem st_mainFunction_39 {Γ : Gm} {h : CH} {d : Nat} (hT : HT h) (o : Ok Γ "LazyForgeModel" cX11_mainFunction 3 (Option.some Jvm.ClassFile.FieldType.int) (d + 1)) {A : Type} {K : A → TS → Prop}  (k_46 : Int → Mo TS A) (hk_46 : ∀ (l1 : Int), R32 l1 → Sx Γ (fun t => (h, t)) K 46 [(1, vI l1)] [] (k_46 l1)) (l2 : Int) (k0 : Int) (hl2 : R32 l2) (hk0 : R32 k0) : Sx Γ (fun t => (h, t)) (KL Γ (fun t => (h, t)) okt_mainFunction_4 K 4 (lvt_mainFunction_4 Γ) []) 39 [(0, vA (mg Γ) 21), (2, vI l2)] [vI k0] (t_mainFunction_39 k_46 l2 k0) := by
  unfold t_mainFunction_39
  refine r_istore_n o dX11_mainFunction_39 rfl rfl ⟨(Nat.ne_of_beq_eq_false rfl), (fun _ => (vA_cat (mg Γ) 21)), ⟨(Nat.ne_of_beq_eq_false rfl), (fun _ => rfl), trivial⟩⟩ ?_
  refine r_iinc (j := 2) o dX11_mainFunction_40 rfl rfl [(1, vI k0), (0, vA (mg Γ) 21)] [0, 1] rfl ⟨(Nat.ne_of_beq_eq_false rfl), (fun _ => rfl), ⟨(Nat.ne_of_beq_eq_false rfl), (fun _ => (vA_cat (mg Γ) 21)), trivial⟩⟩ ?_
  refine s_goto (tgt := 4) o dX11_mainFunction_43 (by decide) ?_
  refine r_to [(0, vA (mg Γ) 21), (1, vI k0), (2, vI (w32 (l2 + 1)))] [2, 1, 0] rfl ?_
  exact s_back (⟨hk0, (w32_R _)⟩) rfl
noncomputable def t_mainFunction_4b {A : Type} (k_46 : Int → Mo TS A) (l1 : Int) (l2 : Int) : Mo TS ((Int × Int) ⊕ A) :=
  bnd (gs 27) fun v1 =>
  if v1 ≤ l2 then
    lo (k_46 l1)
  else
    bnd (rd 28 640 l2) fun v2 =>
    bnd (t_pack 109 97 105 110 0) fun v3 =>
    if ¬ v2 = v3 then
      t_mainFunction_39 k_46 l2 l1
    else
      t_mainFunction_39 k_46 l2 l2
theorem st_mainFunction_4b {Γ : Gm} {h : CH} {d : Nat} (hT : HT h) (o : Ok Γ "LazyForgeModel" cX11_mainFunction 3 (Option.some Jvm.ClassFile.FieldType.int) (d + 1)) {A : Type} {K : A → TS → Prop} (k_46 : Int → Mo TS A) (hk_46 : ∀ (l1 : Int), R32 l1 → Sx Γ (fun t => (h, t)) K 46 [(1, vI l1)] [] (k_46 l1)) (l1 : Int) (l2 : Int) (hl1 : R32 l1) (hl2 : R32 l2) : Sx Γ (fun t => (h, t)) (KL Γ (fun t => (h, t)) okt_mainFunction_4 K 4 (lvt_mainFunction_4 Γ) []) 4 [(0, vA (mg Γ) 21), (1, vI l1), (2, vI l2)] [] (t_mainFunction_4b k_46 l1 l2) := by
  unfold t_mainFunction_4b
  refine s_iload_n o dX11_mainFunction_4 rfl 2 rfl ?_
  refine s_aload_n o dX11_mainFunction_5 rfl 0 rfl ?_
  refine r_tgf vI rfl o hT tf_functions tj_functions (lw_all_tbl q2531) dX11_mainFunction_6 (fun v1 hv1 => ?_)
  refine s_icmp_ge (tgt := 46) o dX11_mainFunction_9 (by decide) hl2 hv1 ?_ ?_
  · refine r_to [(1, vI l1)] [1] rfl ?_
    exact s_lo (hk_46 l1 hl1)
  · refine s_aload_n o dX11_mainFunction_12 rfl 0 rfl ?_
    refine s_tga (x := 35) o hT tf_functionNames ta_functionNames (lw_all_tbl q2532) dX11_mainFunction_13 ?_
    refine s_iload_n o dX11_mainFunction_16 rfl 2 rfl ?_
    refine r_tlald o hT tr_functionNames hl2 dX11_mainFunction_17 (fun v2 hv2 => ?_)
    refine s_bipush o dX11_mainFunction_18 rfl ?_
    refine s_bipush o dX11_mainFunction_20 rfl ?_
    refine s_bipush o dX11_mainFunction_22 rfl ?_
    refine s_bipush o dX11_mainFunction_24 rfl ?_
    refine s_iconst o dX11_mainFunction_26 ?_
    refine s_cs (d := d + 0) (As := [vI 109, vI 97, vI 105, vI 110, vI 0]) (st := [vJ v2]) o (st_pack (mg Γ) d h 109 97 105 110 0 (r32 rfl) (r32 rfl) (r32 rfl) (r32 rfl) (r32 rfl)) mw_X11_pack rfl (Or.inl (lw_all_tbl q2929)) (lw_all_tbl q2930) (wt_J wt_0) rfl dX11_mainFunction_27 rfl (rs := fun r => [vJ r, vJ v2]) (fun _ => rfl) (fun v3 hv3 => ?_)
    refine s_lcmp_ne (tgt := 38) o dX11_mainFunction_30 dX11_mainFunction_31 (by decide) hv2 (hv3 _ rfl) ?_ ?_
    · refine s_iload_n o dX11_mainFunction_38 rfl 1 rfl ?_
      refine r_to [(0, vA (mg Γ) 21), (2, vI l2)] [0, 2] rfl ?_
      exact st_mainFunction_39 hT o k_46 hk_46 l2 l1 hl2 hl1
    · refine s_iload_n o dX11_mainFunction_34 rfl 2 rfl ?_
      refine s_goto (tgt := 39) o dX11_mainFunction_35 (by decide) ?_
      refine r_to [(0, vA (mg Γ) 21), (2, vI l2)] [0, 2] rfl ?_
      exact st_mainFunction_39 hT o k_46 hk_46 l2 l2 hl2 hl2
noncomputable def t_mainFunction_4 {A : Type} (k_46 : Int → Mo TS A) (l1 : Int) (l2 : Int) : Mo TS A := Loop (fun x => t_mainFunction_4b k_46 x.1 x.2) (l1, l2)
theorem st_mainFunction_4 {Γ : Gm} {h : CH} {d : Nat} (hT : HT h) (o : Ok Γ "LazyForgeModel" cX11_mainFunction 3 (Option.some Jvm.ClassFile.FieldType.int) (d + 1)) {A : Type} {K : A → TS → Prop} (k_46 : Int → Mo TS A) (hk_46 : ∀ (l1 : Int), R32 l1 → Sx Γ (fun t => (h, t)) K 46 [(1, vI l1)] [] (k_46 l1)) (l1 : Int) (l2 : Int) (hl1 : R32 l1) (hl2 : R32 l2) : Sx Γ (fun t => (h, t)) K 4 [(0, vA (mg Γ) 21), (1, vI l1), (2, vI l2)] [] (t_mainFunction_4 k_46 l1 l2) :=
  s_loop okt_mainFunction_4 (lvt_mainFunction_4 Γ) (fun x hx => st_mainFunction_4b hT o k_46 hk_46 x.1 x.2 hx.1 hx.2) (x := (l1, l2)) ⟨hl1, hl2⟩
noncomputable def t_mainFunction : Mo TS Int :=
  t_mainFunction_4
    (fun v1 => pr v1) (-1) 0
theorem st_mainFunction (g : gC) (d : Nat) (h : CH) (hT : HT h) : SF g yX11_mainFunction (Cond.code yX11_mainFunction cX11_mainFunction 3 (Option.some Jvm.ClassFile.FieldType.int)) (Option.some Jvm.ClassFile.FieldType.int) (d + 1) [vA g 21] (fun t => (h, t)) (t_mainFunction) := by
  refine SF.of (lv := [(0, vA g 21)]) (by decide) (wt_A wt_0) rfl (by simp only [la_A, la_I, la_J, la_0]) (fun Γ hg hnm o => ?_)
  subst hg
  have o : Ok Γ "LazyForgeModel" cX11_mainFunction 3 (Option.some Jvm.ClassFile.FieldType.int) (d + 1) := o
  unfold t_mainFunction
  refine s_iconst o dX11_mainFunction_0 ?_
  refine r_istore_n o dX11_mainFunction_1 rfl rfl ⟨(Nat.ne_of_beq_eq_false rfl), (fun _ => (vA_cat (mg Γ) 21)), trivial⟩ ?_
  refine s_iconst o dX11_mainFunction_2 ?_
  refine r_istore_n o dX11_mainFunction_3 rfl rfl ⟨(Nat.ne_of_beq_eq_false rfl), (fun _ => rfl), ⟨(Nat.ne_of_beq_eq_false rfl), (fun _ => (vA_cat (mg Γ) 21)), trivial⟩⟩ ?_
  refine r_to [(0, vA (mg Γ) 21), (1, vI (-1)), (2, vI 0)] [2, 1, 0] rfl ?_
  refine st_mainFunction_4 hT o _ ?_ (-1) 0 (r32 rfl) (r32 rfl)
  · intro v1 hv1
    refine s_iload_n o dX11_mainFunction_46 rfl 0 rfl ?_
    exact s_iret o rfl i_int hv1 dX11_mainFunction_47 (fun _ hh => hh)
theorem dX11_closePart_0 : decode cX11_closePart 0 = .ok (.aload_n 0, 1) := by decide +kernel
theorem dX11_closePart_1 : decode cX11_closePart 1 = .ok (.getfield 16, 3) := by decide +kernel
theorem dX11_closePart_4 : decode cX11_closePart 4 = .ok (.iload_n 2, 1) := by decide +kernel
theorem dX11_closePart_5 : decode cX11_closePart 5 = .ok (.iaload, 1) := by decide +kernel
theorem dX11_closePart_6 : decode cX11_closePart 6 = .ok (.tableswitch 454 0 11 #[62, 454, 454, 125, 454, 331, 347, 363, 384, 433, 433, 433], 62) := by decide +kernel
theorem dX11_closePart_68 : decode cX11_closePart 68 = .ok (.aload_n 0, 1) := by decide +kernel
theorem dX11_closePart_69 : decode cX11_closePart 69 = .ok (.iload_n 2, 1) := by decide +kernel
theorem dX11_closePart_70 : decode cX11_closePart 70 = .ok (.invokevirtual 536, 3) := by decide +kernel
theorem dX11_closePart_73 : decode cX11_closePart 73 = .ok (.istore_n 3, 1) := by decide +kernel
theorem dX11_closePart_74 : decode cX11_closePart 74 = .ok (.aload_n 0, 1) := by decide +kernel
theorem dX11_closePart_75 : decode cX11_closePart 75 = .ok (.iconst 0, 1) := by decide +kernel
theorem dX11_closePart_76 : decode cX11_closePart 76 = .ok (.iload_n 3, 1) := by decide +kernel
theorem dX11_closePart_77 : decode cX11_closePart 77 = .ok (.iload_n 3, 1) := by decide +kernel
theorem dX11_closePart_78 : decode cX11_closePart 78 = .ok (.iconst 1, 1) := by decide +kernel
theorem dX11_closePart_79 : decode cX11_closePart 79 = .ok (.iadd, 1) := by decide +kernel
theorem dX11_closePart_80 : decode cX11_closePart 80 = .ok (.invokevirtual 529, 3) := by decide +kernel
theorem dX11_closePart_83 : decode cX11_closePart 83 = .ok (.istore 4, 2) := by decide +kernel
theorem dX11_closePart_85 : decode cX11_closePart 85 = .ok (.aload_n 0, 1) := by decide +kernel
theorem dX11_closePart_86 : decode cX11_closePart 86 = .ok (.getfield 131, 3) := by decide +kernel
theorem dX11_closePart_89 : decode cX11_closePart 89 = .ok (.iload 4, 2) := by decide +kernel
theorem dX11_closePart_91 : decode cX11_closePart 91 = .ok (.aload_n 0, 1) := by decide +kernel
theorem dX11_closePart_92 : decode cX11_closePart 92 = .ok (.iload_n 1, 1) := by decide +kernel
theorem dX11_closePart_93 : decode cX11_closePart 93 = .ok (.aload_n 0, 1) := by decide +kernel
theorem dX11_closePart_94 : decode cX11_closePart 94 = .ok (.getfield 98, 3) := by decide +kernel
theorem dX11_closePart_97 : decode cX11_closePart 97 = .ok (.iload_n 2, 1) := by decide +kernel
theorem dX11_closePart_98 : decode cX11_closePart 98 = .ok (.iaload, 1) := by decide +kernel
theorem dX11_closePart_99 : decode cX11_closePart 99 = .ok (.invokevirtual 532, 3) := by decide +kernel
theorem dX11_closePart_102 : decode cX11_closePart 102 = .ok (.iastore, 1) := by decide +kernel
theorem dX11_closePart_103 : decode cX11_closePart 103 = .ok (.aload_n 0, 1) := by decide +kernel
theorem dX11_closePart_104 : decode cX11_closePart 104 = .ok (.getfield 144, 3) := by decide +kernel
theorem dX11_closePart_107 : decode cX11_closePart 107 = .ok (.iload 4, 2) := by decide +kernel
theorem dX11_closePart_109 : decode cX11_closePart 109 = .ok (.dup2, 1) := by decide +kernel
theorem dX11_closePart_110 : decode cX11_closePart 110 = .ok (.laload, 1) := by decide +kernel
theorem dX11_closePart_111 : decode cX11_closePart 111 = .ok (.aload_n 0, 1) := by decide +kernel
theorem dX11_closePart_112 : decode cX11_closePart 112 = .ok (.getfield 131, 3) := by decide +kernel
theorem dX11_closePart_115 : decode cX11_closePart 115 = .ok (.iload 4, 2) := by decide +kernel
theorem dX11_closePart_117 : decode cX11_closePart 117 = .ok (.iaload, 1) := by decide +kernel
theorem dX11_closePart_118 : decode cX11_closePart 118 = .ok (.iload_n 3, 1) := by decide +kernel
theorem dX11_closePart_119 : decode cX11_closePart 119 = .ok (.invokestatic 539, 3) := by decide +kernel
theorem dX11_closePart_122 : decode cX11_closePart 122 = .ok (.ldc2_w 543, 3) := by decide +kernel
theorem dX11_closePart_125 : decode cX11_closePart 125 = .ok (.lxor, 1) := by decide +kernel
theorem dX11_closePart_126 : decode cX11_closePart 126 = .ok (.land, 1) := by decide +kernel
theorem dX11_closePart_127 : decode cX11_closePart 127 = .ok (.lastore, 1) := by decide +kernel
theorem dX11_closePart_128 : decode cX11_closePart 128 = .ok (.goto 332, 3) := by decide +kernel
theorem dX11_closePart_131 : decode cX11_closePart 131 = .ok (.aload_n 0, 1) := by decide +kernel
theorem dX11_closePart_132 : decode cX11_closePart 132 = .ok (.iload_n 2, 1) := by decide +kernel
theorem dX11_closePart_133 : decode cX11_closePart 133 = .ok (.invokevirtual 536, 3) := by decide +kernel
theorem dX11_closePart_136 : decode cX11_closePart 136 = .ok (.istore_n 3, 1) := by decide +kernel
theorem dX11_closePart_137 : decode cX11_closePart 137 = .ok (.aload_n 0, 1) := by decide +kernel
theorem dX11_closePart_138 : decode cX11_closePart 138 = .ok (.iconst 3, 1) := by decide +kernel
theorem dX11_closePart_139 : decode cX11_closePart 139 = .ok (.iload_n 3, 1) := by decide +kernel
theorem dX11_closePart_140 : decode cX11_closePart 140 = .ok (.iload_n 3, 1) := by decide +kernel
theorem dX11_closePart_141 : decode cX11_closePart 141 = .ok (.iconst 1, 1) := by decide +kernel
theorem dX11_closePart_142 : decode cX11_closePart 142 = .ok (.iadd, 1) := by decide +kernel
theorem dX11_closePart_143 : decode cX11_closePart 143 = .ok (.invokevirtual 529, 3) := by decide +kernel
theorem dX11_closePart_146 : decode cX11_closePart 146 = .ok (.istore 4, 2) := by decide +kernel
theorem dX11_closePart_148 : decode cX11_closePart 148 = .ok (.aload_n 0, 1) := by decide +kernel
theorem dX11_closePart_149 : decode cX11_closePart 149 = .ok (.getfield 144, 3) := by decide +kernel
theorem dX11_closePart_152 : decode cX11_closePart 152 = .ok (.iload 4, 2) := by decide +kernel
theorem dX11_closePart_154 : decode cX11_closePart 154 = .ok (.aload_n 0, 1) := by decide +kernel
theorem dX11_closePart_155 : decode cX11_closePart 155 = .ok (.getfield 144, 3) := by decide +kernel
theorem dX11_closePart_158 : decode cX11_closePart 158 = .ok (.aload_n 0, 1) := by decide +kernel
theorem dX11_closePart_159 : decode cX11_closePart 159 = .ok (.iload 4, 2) := by decide +kernel
theorem dX11_closePart_161 : decode cX11_closePart 161 = .ok (.iconst 0, 1) := by decide +kernel
theorem dX11_closePart_162 : decode cX11_closePart 162 = .ok (.invokevirtual 545, 3) := by decide +kernel
theorem dX11_closePart_165 : decode cX11_closePart 165 = .ok (.laload, 1) := by decide +kernel
theorem dX11_closePart_166 : decode cX11_closePart 166 = .ok (.lastore, 1) := by decide +kernel
theorem dX11_closePart_167 : decode cX11_closePart 167 = .ok (.iconst 0, 1) := by decide +kernel
theorem dX11_closePart_168 : decode cX11_closePart 168 = .ok (.istore 5, 2) := by decide +kernel
theorem dX11_closePart_170 : decode cX11_closePart 170 = .ok (.aload_n 0, 1) := by decide +kernel
theorem dX11_closePart_171 : decode cX11_closePart 171 = .ok (.getfield 19, 3) := by decide +kernel
theorem dX11_closePart_174 : decode cX11_closePart 174 = .ok (.iload_n 2, 1) := by decide +kernel
theorem dX11_closePart_175 : decode cX11_closePart 175 = .ok (.iaload, 1) := by decide +kernel
theorem dX11_closePart_176 : decode cX11_closePart 176 = .ok (.istore 6, 2) := by decide +kernel
theorem dX11_closePart_178 : decode cX11_closePart 178 = .ok (.iload 6, 2) := by decide +kernel
theorem dX11_closePart_180 : decode cX11_closePart 180 = .ok (.ifCond .lt 154, 3) := by decide +kernel
theorem dX11_closePart_183 : decode cX11_closePart 183 = .ok (.aload_n 0, 1) := by decide +kernel
theorem dX11_closePart_184 : decode cX11_closePart 184 = .ok (.getfield 125, 3) := by decide +kernel
theorem dX11_closePart_187 : decode cX11_closePart 187 = .ok (.iload 4, 2) := by decide +kernel
theorem dX11_closePart_189 : decode cX11_closePart 189 = .ok (.iaload, 1) := by decide +kernel
theorem dX11_closePart_190 : decode cX11_closePart 190 = .ok (.iconst 1, 1) := by decide +kernel
theorem dX11_closePart_191 : decode cX11_closePart 191 = .ok (.iadd, 1) := by decide +kernel
theorem dX11_closePart_192 : decode cX11_closePart 192 = .ok (.iload 5, 2) := by decide +kernel
theorem dX11_closePart_194 : decode cX11_closePart 194 = .ok (.iadd, 1) := by decide +kernel
theorem dX11_closePart_195 : decode cX11_closePart 195 = .ok (.istore 7, 2) := by decide +kernel
theorem dX11_closePart_197 : decode cX11_closePart 197 = .ok (.aload_n 0, 1) := by decide +kernel
theorem dX11_closePart_198 : decode cX11_closePart 198 = .ok (.getfield 150, 3) := by decide +kernel
theorem dX11_closePart_201 : decode cX11_closePart 201 = .ok (.iload 7, 2) := by decide +kernel
theorem dX11_closePart_203 : decode cX11_closePart 203 = .ok (.aload_n 0, 1) := by decide +kernel
theorem dX11_closePart_204 : decode cX11_closePart 204 = .ok (.getfield 34, 3) := by decide +kernel
theorem dX11_closePart_207 : decode cX11_closePart 207 = .ok (.iload 6, 2) := by decide +kernel
theorem dX11_closePart_209 : decode cX11_closePart 209 = .ok (.iaload, 1) := by decide +kernel
theorem dX11_closePart_210 : decode cX11_closePart 210 = .ok (.iastore, 1) := by decide +kernel
theorem dX11_closePart_211 : decode cX11_closePart 211 = .ok (.aload_n 0, 1) := by decide +kernel
theorem dX11_closePart_212 : decode cX11_closePart 212 = .ok (.getfield 153, 3) := by decide +kernel
theorem dX11_closePart_215 : decode cX11_closePart 215 = .ok (.iload 7, 2) := by decide +kernel
theorem dX11_closePart_217 : decode cX11_closePart 217 = .ok (.aload_n 0, 1) := by decide +kernel
theorem dX11_closePart_218 : decode cX11_closePart 218 = .ok (.getfield 31, 3) := by decide +kernel
theorem dX11_closePart_221 : decode cX11_closePart 221 = .ok (.iload 6, 2) := by decide +kernel
theorem dX11_closePart_223 : decode cX11_closePart 223 = .ok (.iaload, 1) := by decide +kernel
theorem dX11_closePart_224 : decode cX11_closePart 224 = .ok (.iastore, 1) := by decide +kernel
theorem dX11_closePart_225 : decode cX11_closePart 225 = .ok (.aload_n 0, 1) := by decide +kernel
theorem dX11_closePart_226 : decode cX11_closePart 226 = .ok (.getfield 159, 3) := by decide +kernel
theorem dX11_closePart_229 : decode cX11_closePart 229 = .ok (.iload 7, 2) := by decide +kernel
theorem dX11_closePart_231 : decode cX11_closePart 231 = .ok (.aload_n 0, 1) := by decide +kernel
theorem dX11_closePart_232 : decode cX11_closePart 232 = .ok (.getfield 44, 3) := by decide +kernel
theorem dX11_closePart_235 : decode cX11_closePart 235 = .ok (.iload 6, 2) := by decide +kernel
theorem dX11_closePart_237 : decode cX11_closePart 237 = .ok (.iaload, 1) := by decide +kernel
theorem dX11_closePart_238 : decode cX11_closePart 238 = .ok (.iastore, 1) := by decide +kernel
theorem dX11_closePart_239 : decode cX11_closePart 239 = .ok (.aload_n 0, 1) := by decide +kernel
theorem dX11_closePart_240 : decode cX11_closePart 240 = .ok (.getfield 156, 3) := by decide +kernel
theorem dX11_closePart_243 : decode cX11_closePart 243 = .ok (.iload 7, 2) := by decide +kernel
theorem dX11_closePart_245 : decode cX11_closePart 245 = .ok (.aload_n 0, 1) := by decide +kernel
theorem dX11_closePart_246 : decode cX11_closePart 246 = .ok (.getfield 44, 3) := by decide +kernel
theorem dX11_closePart_249 : decode cX11_closePart 249 = .ok (.iload 6, 2) := by decide +kernel
theorem dX11_closePart_251 : decode cX11_closePart 251 = .ok (.iaload, 1) := by decide +kernel
theorem dX11_closePart_252 : decode cX11_closePart 252 = .ok (.ifCond .le 18, 3) := by decide +kernel
theorem dX11_closePart_255 : decode cX11_closePart 255 = .ok (.aload_n 0, 1) := by decide +kernel
theorem dX11_closePart_256 : decode cX11_closePart 256 = .ok (.iload_n 1, 1) := by decide +kernel
theorem dX11_closePart_257 : decode cX11_closePart 257 = .ok (.aload_n 0, 1) := by decide +kernel
theorem dX11_closePart_258 : decode cX11_closePart 258 = .ok (.getfield 98, 3) := by decide +kernel
theorem dX11_closePart_261 : decode cX11_closePart 261 = .ok (.iload 6, 2) := by decide +kernel
theorem dX11_closePart_263 : decode cX11_closePart 263 = .ok (.iaload, 1) := by decide +kernel
theorem dX11_closePart_264 : decode cX11_closePart 264 = .ok (.invokevirtual 532, 3) := by decide +kernel
theorem dX11_closePart_267 : decode cX11_closePart 267 = .ok (.goto 4, 3) := by decide +kernel
theorem dX11_closePart_270 : decode cX11_closePart 270 = .ok (.iconst 0, 1) := by decide +kernel
theorem dX11_closePart_271 : decode cX11_closePart 271 = .ok (.iastore, 1) := by decide +kernel
theorem dX11_closePart_272 : decode cX11_closePart 272 = .ok (.aload_n 0, 1) := by decide +kernel
theorem dX11_closePart_273 : decode cX11_closePart 273 = .ok (.getfield 144, 3) := by decide +kernel
theorem dX11_closePart_276 : decode cX11_closePart 276 = .ok (.iload 4, 2) := by decide +kernel
theorem dX11_closePart_278 : decode cX11_closePart 278 = .ok (.dup2, 1) := by decide +kernel
theorem dX11_closePart_279 : decode cX11_closePart 279 = .ok (.laload, 1) := by decide +kernel
theorem dX11_closePart_280 : decode cX11_closePart 280 = .ok (.aload_n 0, 1) := by decide +kernel
theorem dX11_closePart_281 : decode cX11_closePart 281 = .ok (.getfield 144, 3) := by decide +kernel
theorem dX11_closePart_284 : decode cX11_closePart 284 = .ok (.aload_n 0, 1) := by decide +kernel
theorem dX11_closePart_285 : decode cX11_closePart 285 = .ok (.iload 4, 2) := by decide +kernel
theorem dX11_closePart_287 : decode cX11_closePart 287 = .ok (.iconst 1, 1) := by decide +kernel
theorem dX11_closePart_288 : decode cX11_closePart 288 = .ok (.iload 5, 2) := by decide +kernel
theorem dX11_closePart_290 : decode cX11_closePart 290 = .ok (.iadd, 1) := by decide +kernel
theorem dX11_closePart_291 : decode cX11_closePart 291 = .ok (.invokevirtual 545, 3) := by decide +kernel
theorem dX11_closePart_294 : decode cX11_closePart 294 = .ok (.laload, 1) := by decide +kernel
theorem dX11_closePart_295 : decode cX11_closePart 295 = .ok (.aload_n 0, 1) := by decide +kernel
theorem dX11_closePart_296 : decode cX11_closePart 296 = .ok (.getfield 156, 3) := by decide +kernel
theorem dX11_closePart_299 : decode cX11_closePart 299 = .ok (.iload 7, 2) := by decide +kernel
theorem dX11_closePart_301 : decode cX11_closePart 301 = .ok (.iaload, 1) := by decide +kernel
theorem dX11_closePart_302 : decode cX11_closePart 302 = .ok (.aload_n 0, 1) := by decide +kernel
theorem dX11_closePart_303 : decode cX11_closePart 303 = .ok (.getfield 44, 3) := by decide +kernel
theorem dX11_closePart_306 : decode cX11_closePart 306 = .ok (.iload 6, 2) := by decide +kernel
theorem dX11_closePart_308 : decode cX11_closePart 308 = .ok (.iaload, 1) := by decide +kernel
theorem dX11_closePart_309 : decode cX11_closePart 309 = .ok (.invokestatic 539, 3) := by decide +kernel
theorem dX11_closePart_312 : decode cX11_closePart 312 = .ok (.ldc2_w 543, 3) := by decide +kernel
theorem dX11_closePart_315 : decode cX11_closePart 315 = .ok (.lxor, 1) := by decide +kernel
theorem dX11_closePart_316 : decode cX11_closePart 316 = .ok (.land, 1) := by decide +kernel
theorem dX11_closePart_317 : decode cX11_closePart 317 = .ok (.lor, 1) := by decide +kernel
theorem dX11_closePart_318 : decode cX11_closePart 318 = .ok (.lastore, 1) := by decide +kernel
theorem dX11_closePart_319 : decode cX11_closePart 319 = .ok (.iinc 5 1, 3) := by decide +kernel
theorem dX11_closePart_322 : decode cX11_closePart 322 = .ok (.aload_n 0, 1) := by decide +kernel
theorem dX11_closePart_323 : decode cX11_closePart 323 = .ok (.getfield 25, 3) := by decide +kernel
theorem dX11_closePart_326 : decode cX11_closePart 326 = .ok (.iload 6, 2) := by decide +kernel
theorem dX11_closePart_328 : decode cX11_closePart 328 = .ok (.iaload, 1) := by decide +kernel
theorem dX11_closePart_329 : decode cX11_closePart 329 = .ok (.istore 6, 2) := by decide +kernel
theorem dX11_closePart_331 : decode cX11_closePart 331 = .ok (.goto (-153), 3) := by decide +kernel
theorem dX11_closePart_334 : decode cX11_closePart 334 = .ok (.goto 126, 3) := by decide +kernel
theorem dX11_closePart_337 : decode cX11_closePart 337 = .ok (.aload_n 0, 1) := by decide +kernel
theorem dX11_closePart_338 : decode cX11_closePart 338 = .ok (.iconst 5, 1) := by decide +kernel
theorem dX11_closePart_339 : decode cX11_closePart 339 = .ok (.aload_n 0, 1) := by decide +kernel
theorem dX11_closePart_340 : decode cX11_closePart 340 = .ok (.getfield 31, 3) := by decide +kernel
theorem dX11_closePart_343 : decode cX11_closePart 343 = .ok (.iload_n 2, 1) := by decide +kernel
theorem dX11_closePart_344 : decode cX11_closePart 344 = .ok (.iaload, 1) := by decide +kernel
theorem dX11_closePart_345 : decode cX11_closePart 345 = .ok (.iconst 2, 1) := by decide +kernel
theorem dX11_closePart_346 : decode cX11_closePart 346 = .ok (.invokevirtual 529, 3) := by decide +kernel
theorem dX11_closePart_349 : decode cX11_closePart 349 = .ok (.pop, 1) := by decide +kernel
theorem dX11_closePart_350 : decode cX11_closePart 350 = .ok (.goto 110, 3) := by decide +kernel
theorem dX11_closePart_353 : decode cX11_closePart 353 = .ok (.aload_n 0, 1) := by decide +kernel
theorem dX11_closePart_354 : decode cX11_closePart 354 = .ok (.bipush 6, 2) := by decide +kernel
theorem dX11_closePart_356 : decode cX11_closePart 356 = .ok (.iconst 0, 1) := by decide +kernel
theorem dX11_closePart_357 : decode cX11_closePart 357 = .ok (.aload_n 0, 1) := by decide +kernel
theorem dX11_closePart_358 : decode cX11_closePart 358 = .ok (.iload_n 2, 1) := by decide +kernel
theorem dX11_closePart_359 : decode cX11_closePart 359 = .ok (.invokevirtual 536, 3) := by decide +kernel
theorem dX11_closePart_362 : decode cX11_closePart 362 = .ok (.invokevirtual 529, 3) := by decide +kernel
theorem dX11_closePart_365 : decode cX11_closePart 365 = .ok (.pop, 1) := by decide +kernel
theorem dX11_closePart_366 : decode cX11_closePart 366 = .ok (.goto 94, 3) := by decide +kernel
theorem dX11_closePart_369 : decode cX11_closePart 369 = .ok (.aload_n 0, 1) := by decide +kernel
theorem dX11_closePart_370 : decode cX11_closePart 370 = .ok (.bipush 7, 2) := by decide +kernel
theorem dX11_closePart_372 : decode cX11_closePart 372 = .ok (.aload_n 0, 1) := by decide +kernel
theorem dX11_closePart_373 : decode cX11_closePart 373 = .ok (.getfield 31, 3) := by decide +kernel
theorem dX11_closePart_376 : decode cX11_closePart 376 = .ok (.iload_n 2, 1) := by decide +kernel
theorem dX11_closePart_377 : decode cX11_closePart 377 = .ok (.iaload, 1) := by decide +kernel
theorem dX11_closePart_378 : decode cX11_closePart 378 = .ok (.aload_n 0, 1) := by decide +kernel
theorem dX11_closePart_379 : decode cX11_closePart 379 = .ok (.iload_n 2, 1) := by decide +kernel
theorem dX11_closePart_380 : decode cX11_closePart 380 = .ok (.invokevirtual 536, 3) := by decide +kernel
theorem dX11_closePart_383 : decode cX11_closePart 383 = .ok (.invokevirtual 529, 3) := by decide +kernel
theorem dX11_closePart_386 : decode cX11_closePart 386 = .ok (.pop, 1) := by decide +kernel
theorem dX11_closePart_387 : decode cX11_closePart 387 = .ok (.goto 73, 3) := by decide +kernel
theorem dX11_closePart_390 : decode cX11_closePart 390 = .ok (.aload_n 0, 1) := by decide +kernel
theorem dX11_closePart_391 : decode cX11_closePart 391 = .ok (.getfield 34, 3) := by decide +kernel
theorem dX11_closePart_394 : decode cX11_closePart 394 = .ok (.iload_n 2, 1) := by decide +kernel
theorem dX11_closePart_395 : decode cX11_closePart 395 = .ok (.iaload, 1) := by decide +kernel
theorem dX11_closePart_396 : decode cX11_closePart 396 = .ok (.iconst 1, 1) := by decide +kernel
theorem dX11_closePart_397 : decode cX11_closePart 397 = .ok (.if_icmp .ne 25, 3) := by decide +kernel
theorem dX11_closePart_400 : decode cX11_closePart 400 = .ok (.aload_n 0, 1) := by decide +kernel
theorem dX11_closePart_401 : decode cX11_closePart 401 = .ok (.bipush 13, 2) := by decide +kernel
theorem dX11_closePart_403 : decode cX11_closePart 403 = .ok (.aload_n 0, 1) := by decide +kernel
theorem dX11_closePart_404 : decode cX11_closePart 404 = .ok (.iload_n 1, 1) := by decide +kernel
theorem dX11_closePart_405 : decode cX11_closePart 405 = .ok (.aload_n 0, 1) := by decide +kernel
theorem dX11_closePart_406 : decode cX11_closePart 406 = .ok (.getfield 31, 3) := by decide +kernel
theorem dX11_closePart_409 : decode cX11_closePart 409 = .ok (.iload_n 2, 1) := by decide +kernel
theorem dX11_closePart_410 : decode cX11_closePart 410 = .ok (.iaload, 1) := by decide +kernel
theorem dX11_closePart_411 : decode cX11_closePart 411 = .ok (.invokevirtual 532, 3) := by decide +kernel
theorem dX11_closePart_414 : decode cX11_closePart 414 = .ok (.iconst 0, 1) := by decide +kernel
theorem dX11_closePart_415 : decode cX11_closePart 415 = .ok (.invokevirtual 529, 3) := by decide +kernel
theorem dX11_closePart_418 : decode cX11_closePart 418 = .ok (.pop, 1) := by decide +kernel
theorem dX11_closePart_419 : decode cX11_closePart 419 = .ok (.goto 41, 3) := by decide +kernel
theorem dX11_closePart_422 : decode cX11_closePart 422 = .ok (.aload_n 0, 1) := by decide +kernel
theorem dX11_closePart_423 : decode cX11_closePart 423 = .ok (.bipush 12, 2) := by decide +kernel
theorem dX11_closePart_425 : decode cX11_closePart 425 = .ok (.aload_n 0, 1) := by decide +kernel
theorem dX11_closePart_426 : decode cX11_closePart 426 = .ok (.getfield 31, 3) := by decide +kernel
theorem dX11_closePart_429 : decode cX11_closePart 429 = .ok (.iload_n 2, 1) := by decide +kernel
theorem dX11_closePart_430 : decode cX11_closePart 430 = .ok (.iaload, 1) := by decide +kernel
theorem dX11_closePart_431 : decode cX11_closePart 431 = .ok (.iconst 0, 1) := by decide +kernel
theorem dX11_closePart_432 : decode cX11_closePart 432 = .ok (.invokevirtual 529, 3) := by decide +kernel
theorem dX11_closePart_435 : decode cX11_closePart 435 = .ok (.pop, 1) := by decide +kernel
theorem dX11_closePart_436 : decode cX11_closePart 436 = .ok (.goto 24, 3) := by decide +kernel
theorem dX11_closePart_439 : decode cX11_closePart 439 = .ok (.aload_n 0, 1) := by decide +kernel
theorem dX11_closePart_440 : decode cX11_closePart 440 = .ok (.aload_n 0, 1) := by decide +kernel
theorem dX11_closePart_441 : decode cX11_closePart 441 = .ok (.getfield 16, 3) := by decide +kernel
theorem dX11_closePart_444 : decode cX11_closePart 444 = .ok (.iload_n 2, 1) := by decide +kernel
theorem dX11_closePart_445 : decode cX11_closePart 445 = .ok (.iaload, 1) := by decide +kernel
theorem dX11_closePart_446 : decode cX11_closePart 446 = .ok (.aload_n 0, 1) := by decide +kernel
theorem dX11_closePart_447 : decode cX11_closePart 447 = .ok (.getfield 31, 3) := by decide +kernel
theorem dX11_closePart_450 : decode cX11_closePart 450 = .ok (.iload_n 2, 1) := by decide +kernel
theorem dX11_closePart_451 : decode cX11_closePart 451 = .ok (.iaload, 1) := by decide +kernel
theorem dX11_closePart_452 : decode cX11_closePart 452 = .ok (.iconst 0, 1) := by decide +kernel
theorem dX11_closePart_453 : decode cX11_closePart 453 = .ok (.invokevirtual 529, 3) := by decide +kernel
theorem dX11_closePart_456 : decode cX11_closePart 456 = .ok (.pop, 1) := by decide +kernel
theorem dX11_closePart_457 : decode cX11_closePart 457 = .ok (.goto 3, 3) := by decide +kernel
theorem dX11_closePart_460 : decode cX11_closePart 460 = .ok (.return_, 1) := by decide +kernel
theorem mw_X11_closePart : MW yX11_closePart (Cond.code yX11_closePart cX11_closePart 8 (Option.none : Option Jvm.ClassFile.FieldType)) cX11_closePart 8 (Option.none : Option Jvm.ClassFile.FieldType) 2 := ⟨rfl, ⟨(lw_all_tbl q3172), rfl, (lw_all_tbl q173)⟩, rfl, ⟨by decide, by decide⟩, by decide +kernel⟩
abbrev okt_closePart_178 (x : Int × Int × Int × Int) : Prop := R32 x.1 ∧ R32 x.2.1 ∧ R32 x.2.2.1 ∧ R32 x.2.2.2
abbrev lvt_closePart_178 (Γ : Gm) (x : Int × Int × Int × Int) : List (Nat × Value) := [(0, vA (mg Γ) 21), (1, vI x.1), (4, vI x.2.1), (5, vI x.2.2.1), (6, vI x.2.2.2)]
noncomputable def t_closePart_271 {A : Type} (k_334 : Mo TS A) (l1 : Int) (l4 : Int) (l5 : Int) (l6 : Int) (l7 : Int) (k0 : Int) (k1 : Int) : Mo TS ((Int × Int × Int × Int) ⊕ A) :=
  bnd (wr 77 14000 k1 k0) fun _ =>
  bnd (rd 72 7000 l4) fun v1 =>
  bnd (t_child l4 (w32 (1 + l5))) fun v2 =>
  bnd (rd 72 7000 v2) fun v3 =>
  bnd (rd 77 14000 l7) fun v4 =>
  bnd (rd 22 3200 l6) fun v5 =>
  bnd (t_bits v4 v5) fun v6 =>
  bnd (wr 72 7000 l4 (lor v1 (land v3 (lxor v6 (-1))))) fun _ =>
  bnd (rd 16 3200 l6) fun v7 =>
  pr (.inl (l1, l4, (w32 (l5 + 1)), v7))
theorem st_closePart_271 {Γ : Gm} {h : CH} {d : Nat} (hT : HT h) (o : Ok Γ "LazyForgeModel" cX11_closePart 8 (Option.none : Option Jvm.ClassFile.FieldType) (d + 1)) {A : Type} {K : A → TS → Prop}  (k_334 : Mo TS A) (hk_334 : Sx Γ (fun t => (h, t)) K 334 [] [] (k_334)) (l1 : Int) (l4 : Int) (l5 : Int) (l6 : Int) (l7 : Int) (k0 : Int) (k1 : Int) (hl1 : R32 l1) (hl4 : R32 l4) (hl5 : R32 l5) (hl6 : R32 l6) (hl7 : R32 l7) (hk0 : R32 k0) (hk1 : R32 k1) : Sx Γ (fun t => (h, t)) (KL Γ (fun t => (h, t)) okt_closePart_178 K 178 (lvt_closePart_178 Γ) []) 271 [(0, vA (mg Γ) 21), (1, vI l1), (4, vI l4), (5, vI l5), (6, vI l6), (7, vI l7)] [vI k0, vI k1, vA (mg Γ) 70] (t_closePart_271 k_334 l1 l4 l5 l6 l7 k0 k1) := by
  unfold t_closePart_271
  refine r_tiast o hT tr_branchVariables hk1 hk0 dX11_closePart_271 ?_
  refine s_aload_n o dX11_closePart_272 rfl 0 rfl ?_
  refine s_tga (x := 66) o hT tf_outside ta_outside (lw_all_tbl q2576) dX11_closePart_273 ?_
  refine s_iload o dX11_closePart_276 2 rfl ?_
  refine s_dup2 o dX11_closePart_278 rfl (vA_cat (mg Γ) 66) ?_
  refine r_tlald o hT tr_outside hl4 dX11_closePart_279 (fun v1 hv1 => ?_)
  refine s_aload_n o dX11_closePart_280 rfl 0 rfl ?_
  refine s_tga (x := 66) o hT tf_outside ta_outside (lw_all_tbl q2576) dX11_closePart_281 ?_
  refine s_aload_n o dX11_closePart_284 rfl 0 rfl ?_
  refine s_iload o dX11_closePart_285 2 rfl ?_
  refine s_iconst o dX11_closePart_287 ?_
  refine s_iload o dX11_closePart_288 3 rfl ?_
  refine s_iadd o dX11_closePart_290 ?_
  refine s_cv (d := d + 0) (C := "LazyForgeModel") (As := [vI l4, vI (w32 (1 + l5))]) (st := [vA (mg Γ) 66, vJ v1, vI l4, vA (mg Γ) 66]) o (st_child (mg Γ) d h hT l4 (w32 (1 + l5)) hl4 (w32_R _)) mw_X11_child rfl (Or.inl (lw_all_tbl q3189)) (lw_all_tbl qs115) (lw_all_tbl q3191) (fun t => rc_t o hT t) (wt_A (wt_J (wt_I (wt_A wt_0)))) rfl dX11_closePart_291 rfl (rs := fun r => [vI r, vA (mg Γ) 66, vJ v1, vI l4, vA (mg Γ) 66]) (fun _ => rfl) (fun v2 hv2 => ?_)
  refine r_tlald o hT tr_outside (hv2 _ rfl) dX11_closePart_294 (fun v3 hv3 => ?_)
  refine s_aload_n o dX11_closePart_295 rfl 0 rfl ?_
  refine s_tga (x := 70) o hT tf_branchVariables ta_branchVariables (lw_all_tbl q2581) dX11_closePart_296 ?_
  refine s_iload o dX11_closePart_299 5 rfl ?_
  refine r_tiald o hT tr_branchVariables hl7 dX11_closePart_301 (fun v4 hv4 => ?_)
  refine s_aload_n o dX11_closePart_302 rfl 0 rfl ?_
  refine s_tga (x := 33) o hT tf_giveCounts ta_giveCounts (lw_all_tbl q2526) dX11_closePart_303 ?_
  refine s_iload o dX11_closePart_306 4 rfl ?_
  refine r_tiald o hT tr_giveCounts hl6 dX11_closePart_308 (fun v5 hv5 => ?_)
  refine s_cs (d := d + 0) (As := [vI v4, vI v5]) (st := [vJ v3, vJ v1, vI l4, vA (mg Γ) 66]) o (st_bits (mg Γ) d h v4 v5 hv4 hv5) mw_X11_bits rfl (Or.inl (lw_all_tbl q3185)) (lw_all_tbl q3186) (wt_J (wt_J (wt_I (wt_A wt_0)))) rfl dX11_closePart_309 rfl (rs := fun r => [vJ r, vJ v3, vJ v1, vI l4, vA (mg Γ) 66]) (fun _ => rfl) (fun v6 hv6 => ?_)
  refine s_ldc2 (n := -1) o dX11_closePart_312 (lw_all_tbl q3188) rfl ?_
  refine s_lxor o dX11_closePart_315 ?_
  refine s_land o dX11_closePart_316 ?_
  refine s_lor o dX11_closePart_317 ?_
  refine r_tlast o hT tr_outside hl4 (lor_R _ _) dX11_closePart_318 ?_
  refine r_iinc (j := 3) o dX11_closePart_319 rfl rfl [(0, vA (mg Γ) 21), (1, vI l1), (4, vI l4), (6, vI l6), (7, vI l7)] [0, 1, 2, 4, 5] rfl ⟨(Nat.ne_of_beq_eq_false rfl), (fun _ => (vA_cat (mg Γ) 21)), ⟨(Nat.ne_of_beq_eq_false rfl), (fun _ => rfl), ⟨(Nat.ne_of_beq_eq_false rfl), (fun _ => rfl), ⟨(Nat.ne_of_beq_eq_false rfl), (fun _ => rfl), ⟨(Nat.ne_of_beq_eq_false rfl), (fun _ => rfl), trivial⟩⟩⟩⟩⟩ ?_
  refine s_aload_n o dX11_closePart_322 rfl 1 rfl ?_
  refine s_tga (x := 27) o hT tf_nexts ta_nexts (lw_all_tbl q2520) dX11_closePart_323 ?_
  refine s_iload o dX11_closePart_326 4 rfl ?_
  refine r_tiald o hT tr_nexts hl6 dX11_closePart_328 (fun v7 hv7 => ?_)
  refine r_istoreP o dX11_closePart_329 rfl [(5, vI (w32 (l5 + 1))), (0, vA (mg Γ) 21), (1, vI l1), (4, vI l4), (7, vI l7)] [0, 1, 2, 3, 5] rfl ⟨(Nat.ne_of_beq_eq_false rfl), (fun _ => rfl), ⟨(Nat.ne_of_beq_eq_false rfl), (fun _ => (vA_cat (mg Γ) 21)), ⟨(Nat.ne_of_beq_eq_false rfl), (fun _ => rfl), ⟨(Nat.ne_of_beq_eq_false rfl), (fun _ => rfl), ⟨(Nat.ne_of_beq_eq_false rfl), (fun _ => rfl), trivial⟩⟩⟩⟩⟩ ?_
  refine s_goto (tgt := 178) o dX11_closePart_331 (by decide) ?_
  refine r_to [(0, vA (mg Γ) 21), (1, vI l1), (4, vI l4), (5, vI (w32 (l5 + 1))), (6, vI v7)] [2, 3, 4, 1, 0] rfl ?_
  exact s_back (⟨hl1, hl4, (w32_R _), hv7⟩) rfl
noncomputable def t_closePart_178b {A : Type} (k_334 : Mo TS A) (l1 : Int) (l4 : Int) (l5 : Int) (l6 : Int) : Mo TS ((Int × Int × Int × Int) ⊕ A) :=
  if l6 < 0 then
    lo k_334
  else
    bnd (rd 66 7000 l4) fun v1 =>
    bnd (rd 19 3200 l6) fun v2 =>
    bnd (wr 75 14000 (w32 ((w32 (v1 + 1)) + l5)) v2) fun _ =>
    bnd (rd 18 3200 l6) fun v3 =>
    bnd (wr 76 14000 (w32 ((w32 (v1 + 1)) + l5)) v3) fun _ =>
    bnd (rd 22 3200 l6) fun v4 =>
    bnd (wr 78 14000 (w32 ((w32 (v1 + 1)) + l5)) v4) fun _ =>
    bnd (rd 22 3200 l6) fun v5 =>
    if v5 ≤ 0 then
      t_closePart_271 k_334 l1 l4 l5 l6 (w32 ((w32 (v1 + 1)) + l5)) 0 (w32 ((w32 (v1 + 1)) + l5))
    else
      bnd (rd 54 3200 l6) fun v6 =>
      bnd (t_local l1 v6) fun v7 =>
      t_closePart_271 k_334 l1 l4 l5 l6 (w32 ((w32 (v1 + 1)) + l5)) v7 (w32 ((w32 (v1 + 1)) + l5))
theorem st_closePart_178b {Γ : Gm} {h : CH} {d : Nat} (hT : HT h) (o : Ok Γ "LazyForgeModel" cX11_closePart 8 (Option.none : Option Jvm.ClassFile.FieldType) (d + 1)) {A : Type} {K : A → TS → Prop} (k_334 : Mo TS A) (hk_334 : Sx Γ (fun t => (h, t)) K 334 [] [] (k_334)) (l1 : Int) (l4 : Int) (l5 : Int) (l6 : Int) (hl1 : R32 l1) (hl4 : R32 l4) (hl5 : R32 l5) (hl6 : R32 l6) : Sx Γ (fun t => (h, t)) (KL Γ (fun t => (h, t)) okt_closePart_178 K 178 (lvt_closePart_178 Γ) []) 178 [(0, vA (mg Γ) 21), (1, vI l1), (4, vI l4), (5, vI l5), (6, vI l6)] [] (t_closePart_178b k_334 l1 l4 l5 l6) := by
  unfold t_closePart_178b
  refine s_iload o dX11_closePart_178 4 rfl ?_
  refine s_if_lt (tgt := 334) o dX11_closePart_180 (by decide) hl6 ?_ ?_
  · refine r_to [] [] rfl ?_
    exact s_lo hk_334
  · refine s_aload_n o dX11_closePart_183 rfl 0 rfl ?_
    refine s_tga (x := 60) o hT tf_liftBegins ta_liftBegins (lw_all_tbl q2570) dX11_closePart_184 ?_
    refine s_iload o dX11_closePart_187 2 rfl ?_
    refine r_tiald o hT tr_liftBegins hl4 dX11_closePart_189 (fun v1 hv1 => ?_)
    refine s_iconst o dX11_closePart_190 ?_
    refine s_iadd o dX11_closePart_191 ?_
    refine s_iload o dX11_closePart_192 3 rfl ?_
    refine s_iadd o dX11_closePart_194 ?_
    refine r_istore o dX11_closePart_195 rfl ⟨(Nat.ne_of_beq_eq_false rfl), (fun _ => (vA_cat (mg Γ) 21)), ⟨(Nat.ne_of_beq_eq_false rfl), (fun _ => rfl), ⟨(Nat.ne_of_beq_eq_false rfl), (fun _ => rfl), ⟨(Nat.ne_of_beq_eq_false rfl), (fun _ => rfl), ⟨(Nat.ne_of_beq_eq_false rfl), (fun _ => rfl), trivial⟩⟩⟩⟩⟩ ?_
    refine s_aload_n o dX11_closePart_197 rfl 1 rfl ?_
    refine s_tga (x := 68) o hT tf_branchSorts ta_branchSorts (lw_all_tbl q2579) dX11_closePart_198 ?_
    refine s_iload o dX11_closePart_201 0 rfl ?_
    refine s_aload_n o dX11_closePart_203 rfl 1 rfl ?_
    refine s_tga (x := 30) o hT tf_sorts ta_sorts (lw_all_tbl q2523) dX11_closePart_204 ?_
    refine s_iload o dX11_closePart_207 5 rfl ?_
    refine r_tiald o hT tr_sorts hl6 dX11_closePart_209 (fun v2 hv2 => ?_)
    refine r_tiast o hT tr_branchSorts (w32_R _) hv2 dX11_closePart_210 ?_
    refine s_aload_n o dX11_closePart_211 rfl 1 rfl ?_
    refine s_tga (x := 69) o hT tf_branchValues ta_branchValues (lw_all_tbl q2580) dX11_closePart_212 ?_
    refine s_iload o dX11_closePart_215 0 rfl ?_
    refine s_aload_n o dX11_closePart_217 rfl 1 rfl ?_
    refine s_tga (x := 29) o hT tf_values ta_values (lw_all_tbl q2522) dX11_closePart_218 ?_
    refine s_iload o dX11_closePart_221 5 rfl ?_
    refine r_tiald o hT tr_values hl6 dX11_closePart_223 (fun v3 hv3 => ?_)
    refine r_tiast o hT tr_branchValues (w32_R _) hv3 dX11_closePart_224 ?_
    refine s_aload_n o dX11_closePart_225 rfl 1 rfl ?_
    refine s_tga (x := 71) o hT tf_branchCounts ta_branchCounts (lw_all_tbl q2582) dX11_closePart_226 ?_
    refine s_iload o dX11_closePart_229 0 rfl ?_
    refine s_aload_n o dX11_closePart_231 rfl 1 rfl ?_
    refine s_tga (x := 33) o hT tf_giveCounts ta_giveCounts (lw_all_tbl q2526) dX11_closePart_232 ?_
    refine s_iload o dX11_closePart_235 5 rfl ?_
    refine r_tiald o hT tr_giveCounts hl6 dX11_closePart_237 (fun v4 hv4 => ?_)
    refine r_tiast o hT tr_branchCounts (w32_R _) hv4 dX11_closePart_238 ?_
    refine s_aload_n o dX11_closePart_239 rfl 1 rfl ?_
    refine s_tga (x := 70) o hT tf_branchVariables ta_branchVariables (lw_all_tbl q2581) dX11_closePart_240 ?_
    refine s_iload o dX11_closePart_243 0 rfl ?_
    refine s_aload_n o dX11_closePart_245 rfl 1 rfl ?_
    refine s_tga (x := 33) o hT tf_giveCounts ta_giveCounts (lw_all_tbl q2526) dX11_closePart_246 ?_
    refine s_iload o dX11_closePart_249 5 rfl ?_
    refine r_tiald o hT tr_giveCounts hl6 dX11_closePart_251 (fun v5 hv5 => ?_)
    refine s_if_le (tgt := 270) o dX11_closePart_252 (by decide) hv5 ?_ ?_
    · refine s_iconst o dX11_closePart_270 ?_
      refine r_to [(0, vA (mg Γ) 21), (1, vI l1), (4, vI l4), (5, vI l5), (6, vI l6), (7, vI (w32 ((w32 (v1 + 1)) + l5)))] [1, 2, 3, 4, 5, 0] rfl ?_
      exact st_closePart_271 hT o k_334 hk_334 l1 l4 l5 l6 (w32 ((w32 (v1 + 1)) + l5)) 0 (w32 ((w32 (v1 + 1)) + l5)) hl1 hl4 hl5 hl6 (w32_R _) (r32 rfl) (w32_R _)
    · refine s_aload_n o dX11_closePart_255 rfl 1 rfl ?_
      refine s_iload_n o dX11_closePart_256 rfl 2 rfl ?_
      refine s_aload_n o dX11_closePart_257 rfl 1 rfl ?_
      refine s_tga (x := 51) o hT tf_firstVariables ta_firstVariables (lw_all_tbl q2558) dX11_closePart_258 ?_
      refine s_iload o dX11_closePart_261 5 rfl ?_
      refine r_tiald o hT tr_firstVariables hl6 dX11_closePart_263 (fun v6 hv6 => ?_)
      refine s_cv (d := d + 0) (C := "LazyForgeModel") (As := [vI l1, vI v6]) (st := [vI (w32 ((w32 (v1 + 1)) + l5)), vA (mg Γ) 70]) o (st_local (mg Γ) d h hT l1 v6 hl1 hv6) mw_X11_local rfl (Or.inl (lw_all_tbl q3181)) (lw_all_tbl qs114) (lw_all_tbl q3183) (fun t => rc_t o hT t) (wt_I (wt_A wt_0)) rfl dX11_closePart_264 rfl (rs := fun r => [vI r, vI (w32 ((w32 (v1 + 1)) + l5)), vA (mg Γ) 70]) (fun _ => rfl) (fun v7 hv7 => ?_)
      refine s_goto (tgt := 271) o dX11_closePart_267 (by decide) ?_
      refine r_to [(0, vA (mg Γ) 21), (1, vI l1), (4, vI l4), (5, vI l5), (6, vI l6), (7, vI (w32 ((w32 (v1 + 1)) + l5)))] [1, 2, 3, 4, 5, 0] rfl ?_
      exact st_closePart_271 hT o k_334 hk_334 l1 l4 l5 l6 (w32 ((w32 (v1 + 1)) + l5)) v7 (w32 ((w32 (v1 + 1)) + l5)) hl1 hl4 hl5 hl6 (w32_R _) (hv7 _ rfl) (w32_R _)
noncomputable def t_closePart_178 {A : Type} (k_334 : Mo TS A) (l1 : Int) (l4 : Int) (l5 : Int) (l6 : Int) : Mo TS A := Loop (fun x => t_closePart_178b k_334 x.1 x.2.1 x.2.2.1 x.2.2.2) (l1, l4, l5, l6)
theorem st_closePart_178 {Γ : Gm} {h : CH} {d : Nat} (hT : HT h) (o : Ok Γ "LazyForgeModel" cX11_closePart 8 (Option.none : Option Jvm.ClassFile.FieldType) (d + 1)) {A : Type} {K : A → TS → Prop} (k_334 : Mo TS A) (hk_334 : Sx Γ (fun t => (h, t)) K 334 [] [] (k_334)) (l1 : Int) (l4 : Int) (l5 : Int) (l6 : Int) (hl1 : R32 l1) (hl4 : R32 l4) (hl5 : R32 l5) (hl6 : R32 l6) : Sx Γ (fun t => (h, t)) K 178 [(0, vA (mg Γ) 21), (1, vI l1), (4, vI l4), (5, vI l5), (6, vI l6)] [] (t_closePart_178 k_334 l1 l4 l5 l6) :=
  s_loop okt_closePart_178 (lvt_closePart_178 Γ) (fun x hx => st_closePart_178b hT o k_334 hk_334 x.1 x.2.1 x.2.2.1 x.2.2.2 hx.1 hx.2.1 hx.2.2.1 hx.2.2.2) (x := (l1, l4, l5, l6)) ⟨hl1, hl4, hl5, hl6⟩
noncomputable def t_closePart (l1 : Int) (l2 : Int) : Mo TS Int :=
  bnd (rd 13 3200 l2) fun v1 =>
  if v1 = 0 then
    bnd (t_rowCount l2) fun v3 =>
    bnd (t_lift 0 v3 (w32 (v3 + 1))) fun v4 =>
    bnd (rd 54 3200 l2) fun v5 =>
    bnd (t_local l1 v5) fun v6 =>
    bnd (wr 68 7000 v4 v6) fun _ =>
    bnd (rd 72 7000 v4) fun v7 =>
    bnd (rd 68 7000 v4) fun v8 =>
    bnd (t_bits v8 v3) fun v9 =>
    bnd (wr 72 7000 v4 (land v7 (lxor v9 (-1)))) fun _ =>
    pr 0
  else
    if v1 = 3 then
      bnd (t_rowCount l2) fun v11 =>
      bnd (t_lift 3 v11 (w32 (v11 + 1))) fun v12 =>
      bnd (t_child v12 0) fun v13 =>
      bnd (rd 72 7000 v13) fun v14 =>
      bnd (wr 72 7000 v12 v14) fun _ =>
      bnd (rd 14 3200 l2) fun v15 =>
      t_closePart_178
        (pr 0) l1 v12 0 v15
    else
      if v1 = 5 then
        bnd (rd 18 3200 l2) fun v17 =>
        bnd (t_lift 5 v17 2) fun v18 =>
        pr 0
      else
        if v1 = 6 then
          bnd (t_rowCount l2) fun v20 =>
          bnd (t_lift 6 0 v20) fun v21 =>
          pr 0
        else
          if v1 = 7 then
            bnd (rd 18 3200 l2) fun v23 =>
            bnd (t_rowCount l2) fun v24 =>
            bnd (t_lift 7 v23 v24) fun v25 =>
            pr 0
          else
            if v1 = 8 then
              bnd (rd 19 3200 l2) fun v27 =>
              if ¬ v27 = 1 then
                bnd (rd 18 3200 l2) fun v28 =>
                bnd (t_lift 12 v28 0) fun v29 =>
                pr 0
              else
                bnd (rd 18 3200 l2) fun v30 =>
                bnd (t_local l1 v30) fun v31 =>
                bnd (t_lift 13 v31 0) fun v32 =>
                pr 0
            else
              if v1 = 9 then
                bnd (rd 13 3200 l2) fun v34 =>
                bnd (rd 18 3200 l2) fun v35 =>
                bnd (t_lift v34 v35 0) fun v36 =>
                pr 0
              else
                if v1 = 10 then
                  bnd (rd 13 3200 l2) fun v38 =>
                  bnd (rd 18 3200 l2) fun v39 =>
                  bnd (t_lift v38 v39 0) fun v40 =>
                  pr 0
                else
                  if v1 = 11 then
                    bnd (rd 13 3200 l2) fun v42 =>
                    bnd (rd 18 3200 l2) fun v43 =>
                    bnd (t_lift v42 v43 0) fun v44 =>
                    pr 0
                  else
                    pr 0
theorem st_closePart (g : gC) (d : Nat) (h : CH) (hT : HT h) (l1 : Int) (l2 : Int) (hl1 : R32 l1) (hl2 : R32 l2) : SF g yX11_closePart (Cond.code yX11_closePart cX11_closePart 8 (Option.none : Option Jvm.ClassFile.FieldType)) (Option.none : Option Jvm.ClassFile.FieldType) (d + 1) [vA g 21, vI l1, vI l2] (fun t => (h, t)) (t_closePart l1 l2) := by
  refine SF.of (lv := [(0, vA g 21), (1, vI l1), (2, vI l2)]) (by decide) (wt_A (wt_I (wt_I wt_0))) rfl (by simp only [la_A, la_I, la_J, la_0]) (fun Γ hg hnm o => ?_)
  subst hg
  have o : Ok Γ "LazyForgeModel" cX11_closePart 8 (Option.none : Option Jvm.ClassFile.FieldType) (d + 1) := o
  unfold t_closePart
  refine s_aload_n o dX11_closePart_0 rfl 0 rfl ?_
  refine s_tga (x := 24) o hT tf_kinds ta_kinds (lw_all_tbl q2517) dX11_closePart_1 ?_
  refine s_iload_n o dX11_closePart_4 rfl 2 rfl ?_
  refine r_tiald o hT tr_kinds hl2 dX11_closePart_5 (fun v1 hv1 => ?_)
  refine s_case (P := True) (fun e1 => ?_) (fun e1 => ?_)
  · refine s_tabE o e1 dX11_closePart_6 (r32 rfl) rfl rfl (tgt := 68) (by decide) ?_
    refine s_aload_n o dX11_closePart_68 rfl 0 rfl ?_
    refine s_iload_n o dX11_closePart_69 rfl 2 rfl ?_
    refine s_cv (d := d + 0) (C := "LazyForgeModel") (As := [vI l2]) (st := []) o (st_rowCount (mg Γ) d h hT l2 hl2) mw_X11_rowCount rfl (Or.inl (lw_all_tbl q3173)) (lw_all_tbl qs112) (lw_all_tbl q3175) (fun t => rc_t o hT t) wt_0 rfl dX11_closePart_70 rfl (rs := fun r => [vI r]) (fun _ => rfl) (fun v3 hv3 => ?_)
    refine r_istore_n o dX11_closePart_73 rfl rfl ⟨(Nat.ne_of_beq_eq_false rfl), (fun _ => (vA_cat (mg Γ) 21)), ⟨(Nat.ne_of_beq_eq_false rfl), (fun _ => rfl), ⟨(Nat.ne_of_beq_eq_false rfl), (fun _ => rfl), trivial⟩⟩⟩ ?_
    refine s_aload_n o dX11_closePart_74 rfl 1 rfl ?_
    refine s_iconst o dX11_closePart_75 ?_
    refine s_iload_n o dX11_closePart_76 rfl 0 rfl ?_
    refine s_iload_n o dX11_closePart_77 rfl 0 rfl ?_
    refine s_iconst o dX11_closePart_78 ?_
    refine s_iadd o dX11_closePart_79 ?_
    refine s_cv (d := d + 0) (C := "LazyForgeModel") (As := [vI 0, vI v3, vI (w32 (v3 + 1))]) (st := []) o (st_lift (mg Γ) d h hT 0 v3 (w32 (v3 + 1)) (r32 rfl) (hv3 _ rfl) (w32_R _)) mw_X11_lift rfl (Or.inl (lw_all_tbl q3177)) (lw_all_tbl qs113) (lw_all_tbl q3179) (fun t => rc_t o hT t) wt_0 rfl dX11_closePart_80 rfl (rs := fun r => [vI r]) (fun _ => rfl) (fun v4 hv4 => ?_)
    refine r_istore o dX11_closePart_83 rfl ⟨(Nat.ne_of_beq_eq_false rfl), (fun _ => rfl), ⟨(Nat.ne_of_beq_eq_false rfl), (fun _ => (vA_cat (mg Γ) 21)), ⟨(Nat.ne_of_beq_eq_false rfl), (fun _ => rfl), ⟨(Nat.ne_of_beq_eq_false rfl), (fun _ => rfl), trivial⟩⟩⟩⟩ ?_
    refine s_aload_n o dX11_closePart_85 rfl 2 rfl ?_
    refine s_tga (x := 62) o hT tf_liftVariables ta_liftVariables (lw_all_tbl q2572) dX11_closePart_86 ?_
    refine s_iload o dX11_closePart_89 0 rfl ?_
    refine s_aload_n o dX11_closePart_91 rfl 2 rfl ?_
    refine s_iload_n o dX11_closePart_92 rfl 3 rfl ?_
    refine s_aload_n o dX11_closePart_93 rfl 2 rfl ?_
    refine s_tga (x := 51) o hT tf_firstVariables ta_firstVariables (lw_all_tbl q2558) dX11_closePart_94 ?_
    refine s_iload_n o dX11_closePart_97 rfl 4 rfl ?_
    refine r_tiald o hT tr_firstVariables hl2 dX11_closePart_98 (fun v5 hv5 => ?_)
    refine s_cv (d := d + 0) (C := "LazyForgeModel") (As := [vI l1, vI v5]) (st := [vI v4, vA (mg Γ) 62]) o (st_local (mg Γ) d h hT l1 v5 hl1 hv5) mw_X11_local rfl (Or.inl (lw_all_tbl q3181)) (lw_all_tbl qs114) (lw_all_tbl q3183) (fun t => rc_t o hT t) (wt_I (wt_A wt_0)) rfl dX11_closePart_99 rfl (rs := fun r => [vI r, vI v4, vA (mg Γ) 62]) (fun _ => rfl) (fun v6 hv6 => ?_)
    refine r_tiast o hT tr_liftVariables (hv4 _ rfl) (hv6 _ rfl) dX11_closePart_102 ?_
    refine s_aload_n o dX11_closePart_103 rfl 2 rfl ?_
    refine s_tga (x := 66) o hT tf_outside ta_outside (lw_all_tbl q2576) dX11_closePart_104 ?_
    refine s_iload o dX11_closePart_107 0 rfl ?_
    refine s_dup2 o dX11_closePart_109 rfl (vA_cat (mg Γ) 66) ?_
    refine r_tlald o hT tr_outside (hv4 _ rfl) dX11_closePart_110 (fun v7 hv7 => ?_)
    refine s_aload_n o dX11_closePart_111 rfl 2 rfl ?_
    refine s_tga (x := 62) o hT tf_liftVariables ta_liftVariables (lw_all_tbl q2572) dX11_closePart_112 ?_
    refine s_iload o dX11_closePart_115 0 rfl ?_
    refine r_tiald o hT tr_liftVariables (hv4 _ rfl) dX11_closePart_117 (fun v8 hv8 => ?_)
    refine s_iload_n o dX11_closePart_118 rfl 1 rfl ?_
    refine s_cs (d := d + 0) (As := [vI v8, vI v3]) (st := [vJ v7, vI v4, vA (mg Γ) 66]) o (st_bits (mg Γ) d h v8 v3 hv8 (hv3 _ rfl)) mw_X11_bits rfl (Or.inl (lw_all_tbl q3185)) (lw_all_tbl q3186) (wt_J (wt_I (wt_A wt_0))) rfl dX11_closePart_119 rfl (rs := fun r => [vJ r, vJ v7, vI v4, vA (mg Γ) 66]) (fun _ => rfl) (fun v9 hv9 => ?_)
    refine s_ldc2 (n := -1) o dX11_closePart_122 (lw_all_tbl q3188) rfl ?_
    refine s_lxor o dX11_closePart_125 ?_
    refine s_land o dX11_closePart_126 ?_
    refine r_tlast o hT tr_outside (hv4 _ rfl) (land_R _ _) dX11_closePart_127 ?_
    refine s_goto (tgt := 460) o dX11_closePart_128 (by decide) ?_
    exact s_vret o rfl dX11_closePart_460 (fun _ hh => hh)
  · refine s_case (P := True) (fun e9 => ?_) (fun e9 => ?_)
    · refine s_tabE o e9 dX11_closePart_6 (r32 rfl) rfl rfl (tgt := 131) (by decide) ?_
      refine s_aload_n o dX11_closePart_131 rfl 0 rfl ?_
      refine s_iload_n o dX11_closePart_132 rfl 2 rfl ?_
      refine s_cv (d := d + 0) (C := "LazyForgeModel") (As := [vI l2]) (st := []) o (st_rowCount (mg Γ) d h hT l2 hl2) mw_X11_rowCount rfl (Or.inl (lw_all_tbl q3173)) (lw_all_tbl qs112) (lw_all_tbl q3175) (fun t => rc_t o hT t) wt_0 rfl dX11_closePart_133 rfl (rs := fun r => [vI r]) (fun _ => rfl) (fun v11 hv11 => ?_)
      refine r_istore_n o dX11_closePart_136 rfl rfl ⟨(Nat.ne_of_beq_eq_false rfl), (fun _ => (vA_cat (mg Γ) 21)), ⟨(Nat.ne_of_beq_eq_false rfl), (fun _ => rfl), ⟨(Nat.ne_of_beq_eq_false rfl), (fun _ => rfl), trivial⟩⟩⟩ ?_
      refine s_aload_n o dX11_closePart_137 rfl 1 rfl ?_
      refine s_iconst o dX11_closePart_138 ?_
      refine s_iload_n o dX11_closePart_139 rfl 0 rfl ?_
      refine s_iload_n o dX11_closePart_140 rfl 0 rfl ?_
      refine s_iconst o dX11_closePart_141 ?_
      refine s_iadd o dX11_closePart_142 ?_
      refine s_cv (d := d + 0) (C := "LazyForgeModel") (As := [vI 3, vI v11, vI (w32 (v11 + 1))]) (st := []) o (st_lift (mg Γ) d h hT 3 v11 (w32 (v11 + 1)) (r32 rfl) (hv11 _ rfl) (w32_R _)) mw_X11_lift rfl (Or.inl (lw_all_tbl q3177)) (lw_all_tbl qs113) (lw_all_tbl q3179) (fun t => rc_t o hT t) wt_0 rfl dX11_closePart_143 rfl (rs := fun r => [vI r]) (fun _ => rfl) (fun v12 hv12 => ?_)
      refine r_istore o dX11_closePart_146 rfl ⟨(Nat.ne_of_beq_eq_false rfl), (fun _ => rfl), ⟨(Nat.ne_of_beq_eq_false rfl), (fun _ => (vA_cat (mg Γ) 21)), ⟨(Nat.ne_of_beq_eq_false rfl), (fun _ => rfl), ⟨(Nat.ne_of_beq_eq_false rfl), (fun _ => rfl), trivial⟩⟩⟩⟩ ?_
      refine s_aload_n o dX11_closePart_148 rfl 2 rfl ?_
      refine s_tga (x := 66) o hT tf_outside ta_outside (lw_all_tbl q2576) dX11_closePart_149 ?_
      refine s_iload o dX11_closePart_152 0 rfl ?_
      refine s_aload_n o dX11_closePart_154 rfl 2 rfl ?_
      refine s_tga (x := 66) o hT tf_outside ta_outside (lw_all_tbl q2576) dX11_closePart_155 ?_
      refine s_aload_n o dX11_closePart_158 rfl 2 rfl ?_
      refine s_iload o dX11_closePart_159 0 rfl ?_
      refine s_iconst o dX11_closePart_161 ?_
      refine s_cv (d := d + 0) (C := "LazyForgeModel") (As := [vI v12, vI 0]) (st := [vA (mg Γ) 66, vI v12, vA (mg Γ) 66]) o (st_child (mg Γ) d h hT v12 0 (hv12 _ rfl) (r32 rfl)) mw_X11_child rfl (Or.inl (lw_all_tbl q3189)) (lw_all_tbl qs115) (lw_all_tbl q3191) (fun t => rc_t o hT t) (wt_A (wt_I (wt_A wt_0))) rfl dX11_closePart_162 rfl (rs := fun r => [vI r, vA (mg Γ) 66, vI v12, vA (mg Γ) 66]) (fun _ => rfl) (fun v13 hv13 => ?_)
      refine r_tlald o hT tr_outside (hv13 _ rfl) dX11_closePart_165 (fun v14 hv14 => ?_)
      refine r_tlast o hT tr_outside (hv12 _ rfl) hv14 dX11_closePart_166 ?_
      refine s_iconst o dX11_closePart_167 ?_
      refine r_istore o dX11_closePart_168 rfl ⟨(Nat.ne_of_beq_eq_false rfl), (fun _ => rfl), ⟨(Nat.ne_of_beq_eq_false rfl), (fun _ => rfl), ⟨(Nat.ne_of_beq_eq_false rfl), (fun _ => (vA_cat (mg Γ) 21)), ⟨(Nat.ne_of_beq_eq_false rfl), (fun _ => rfl), ⟨(Nat.ne_of_beq_eq_false rfl), (fun _ => rfl), trivial⟩⟩⟩⟩⟩ ?_
      refine s_aload_n o dX11_closePart_170 rfl 3 rfl ?_
      refine s_tga (x := 25) o hT tf_firsts ta_firsts (lw_all_tbl q2518) dX11_closePart_171 ?_
      refine s_iload_n o dX11_closePart_174 rfl 5 rfl ?_
      refine r_tiald o hT tr_firsts hl2 dX11_closePart_175 (fun v15 hv15 => ?_)
      refine r_istore o dX11_closePart_176 rfl ⟨(Nat.ne_of_beq_eq_false rfl), (fun _ => rfl), ⟨(Nat.ne_of_beq_eq_false rfl), (fun _ => rfl), ⟨(Nat.ne_of_beq_eq_false rfl), (fun _ => rfl), ⟨(Nat.ne_of_beq_eq_false rfl), (fun _ => (vA_cat (mg Γ) 21)), ⟨(Nat.ne_of_beq_eq_false rfl), (fun _ => rfl), ⟨(Nat.ne_of_beq_eq_false rfl), (fun _ => rfl), trivial⟩⟩⟩⟩⟩⟩ ?_
      refine r_to [(0, vA (mg Γ) 21), (1, vI l1), (4, vI v12), (5, vI 0), (6, vI v15)] [4, 5, 2, 1, 0] rfl ?_
      refine st_closePart_178 hT o _ ?_ l1 v12 0 v15 hl1 (hv12 _ rfl) (r32 rfl) hv15
      · refine s_goto (tgt := 460) o dX11_closePart_334 (by decide) ?_
        exact s_vret o rfl dX11_closePart_460 (fun _ hh => hh)
    · refine s_case (P := True) (fun e15 => ?_) (fun e15 => ?_)
      · refine s_tabE o e15 dX11_closePart_6 (r32 rfl) rfl rfl (tgt := 337) (by decide) ?_
        refine s_aload_n o dX11_closePart_337 rfl 0 rfl ?_
        refine s_iconst o dX11_closePart_338 ?_
        refine s_aload_n o dX11_closePart_339 rfl 0 rfl ?_
        refine s_tga (x := 29) o hT tf_values ta_values (lw_all_tbl q2522) dX11_closePart_340 ?_
        refine s_iload_n o dX11_closePart_343 rfl 2 rfl ?_
        refine r_tiald o hT tr_values hl2 dX11_closePart_344 (fun v17 hv17 => ?_)
        refine s_iconst o dX11_closePart_345 ?_
        refine s_cv (d := d + 0) (C := "LazyForgeModel") (As := [vI 5, vI v17, vI 2]) (st := []) o (st_lift (mg Γ) d h hT 5 v17 2 (r32 rfl) hv17 (r32 rfl)) mw_X11_lift rfl (Or.inl (lw_all_tbl q3177)) (lw_all_tbl qs113) (lw_all_tbl q3179) (fun t => rc_t o hT t) wt_0 rfl dX11_closePart_346 rfl (rs := fun r => [vI r]) (fun _ => rfl) (fun v18 hv18 => ?_)
        refine s_pop o dX11_closePart_349 rfl ?_
        refine s_goto (tgt := 460) o dX11_closePart_350 (by decide) ?_
        exact s_vret o rfl dX11_closePart_460 (fun _ hh => hh)
      · refine s_case (P := True) (fun e18 => ?_) (fun e18 => ?_)
        · refine s_tabE o e18 dX11_closePart_6 (r32 rfl) rfl rfl (tgt := 353) (by decide) ?_
          refine s_aload_n o dX11_closePart_353 rfl 0 rfl ?_
          refine s_bipush o dX11_closePart_354 rfl ?_
          refine s_iconst o dX11_closePart_356 ?_
          refine s_aload_n o dX11_closePart_357 rfl 0 rfl ?_
          refine s_iload_n o dX11_closePart_358 rfl 2 rfl ?_
          refine s_cv (d := d + 0) (C := "LazyForgeModel") (As := [vI l2]) (st := [vI 0, vI 6, vA (mg Γ) 21]) o (st_rowCount (mg Γ) d h hT l2 hl2) mw_X11_rowCount rfl (Or.inl (lw_all_tbl q3173)) (lw_all_tbl qs112) (lw_all_tbl q3175) (fun t => rc_t o hT t) (wt_I (wt_I (wt_A wt_0))) rfl dX11_closePart_359 rfl (rs := fun r => [vI r, vI 0, vI 6, vA (mg Γ) 21]) (fun _ => rfl) (fun v20 hv20 => ?_)
          refine s_cv (d := d + 0) (C := "LazyForgeModel") (As := [vI 6, vI 0, vI v20]) (st := []) o (st_lift (mg Γ) d h hT 6 0 v20 (r32 rfl) (r32 rfl) (hv20 _ rfl)) mw_X11_lift rfl (Or.inl (lw_all_tbl q3177)) (lw_all_tbl qs113) (lw_all_tbl q3179) (fun t => rc_t o hT t) wt_0 rfl dX11_closePart_362 rfl (rs := fun r => [vI r]) (fun _ => rfl) (fun v21 hv21 => ?_)
          refine s_pop o dX11_closePart_365 rfl ?_
          refine s_goto (tgt := 460) o dX11_closePart_366 (by decide) ?_
          exact s_vret o rfl dX11_closePart_460 (fun _ hh => hh)
        · refine s_case (P := True) (fun e21 => ?_) (fun e21 => ?_)
          · refine s_tabE o e21 dX11_closePart_6 (r32 rfl) rfl rfl (tgt := 369) (by decide) ?_
            refine s_aload_n o dX11_closePart_369 rfl 0 rfl ?_
            refine s_bipush o dX11_closePart_370 rfl ?_
            refine s_aload_n o dX11_closePart_372 rfl 0 rfl ?_
            refine s_tga (x := 29) o hT tf_values ta_values (lw_all_tbl q2522) dX11_closePart_373 ?_
            refine s_iload_n o dX11_closePart_376 rfl 2 rfl ?_
            refine r_tiald o hT tr_values hl2 dX11_closePart_377 (fun v23 hv23 => ?_)
            refine s_aload_n o dX11_closePart_378 rfl 0 rfl ?_
            refine s_iload_n o dX11_closePart_379 rfl 2 rfl ?_
            refine s_cv (d := d + 0) (C := "LazyForgeModel") (As := [vI l2]) (st := [vI v23, vI 7, vA (mg Γ) 21]) o (st_rowCount (mg Γ) d h hT l2 hl2) mw_X11_rowCount rfl (Or.inl (lw_all_tbl q3173)) (lw_all_tbl qs112) (lw_all_tbl q3175) (fun t => rc_t o hT t) (wt_I (wt_I (wt_A wt_0))) rfl dX11_closePart_380 rfl (rs := fun r => [vI r, vI v23, vI 7, vA (mg Γ) 21]) (fun _ => rfl) (fun v24 hv24 => ?_)
            refine s_cv (d := d + 0) (C := "LazyForgeModel") (As := [vI 7, vI v23, vI v24]) (st := []) o (st_lift (mg Γ) d h hT 7 v23 v24 (r32 rfl) hv23 (hv24 _ rfl)) mw_X11_lift rfl (Or.inl (lw_all_tbl q3177)) (lw_all_tbl qs113) (lw_all_tbl q3179) (fun t => rc_t o hT t) wt_0 rfl dX11_closePart_383 rfl (rs := fun r => [vI r]) (fun _ => rfl) (fun v25 hv25 => ?_)
            refine s_pop o dX11_closePart_386 rfl ?_
            refine s_goto (tgt := 460) o dX11_closePart_387 (by decide) ?_
            exact s_vret o rfl dX11_closePart_460 (fun _ hh => hh)
          · refine s_case (P := True) (fun e25 => ?_) (fun e25 => ?_)
            · refine s_tabE o e25 dX11_closePart_6 (r32 rfl) rfl rfl (tgt := 390) (by decide) ?_
              refine s_aload_n o dX11_closePart_390 rfl 0 rfl ?_
              refine s_tga (x := 30) o hT tf_sorts ta_sorts (lw_all_tbl q2523) dX11_closePart_391 ?_
              refine s_iload_n o dX11_closePart_394 rfl 2 rfl ?_
              refine r_tiald o hT tr_sorts hl2 dX11_closePart_395 (fun v27 hv27 => ?_)
              refine s_iconst o dX11_closePart_396 ?_
              refine s_icmp_ne (tgt := 422) o dX11_closePart_397 (by decide) hv27 (r32 rfl) ?_ ?_
              · refine s_aload_n o dX11_closePart_422 rfl 0 rfl ?_
                refine s_bipush o dX11_closePart_423 rfl ?_
                refine s_aload_n o dX11_closePart_425 rfl 0 rfl ?_
                refine s_tga (x := 29) o hT tf_values ta_values (lw_all_tbl q2522) dX11_closePart_426 ?_
                refine s_iload_n o dX11_closePart_429 rfl 2 rfl ?_
                refine r_tiald o hT tr_values hl2 dX11_closePart_430 (fun v28 hv28 => ?_)
                refine s_iconst o dX11_closePart_431 ?_
                refine s_cv (d := d + 0) (C := "LazyForgeModel") (As := [vI 12, vI v28, vI 0]) (st := []) o (st_lift (mg Γ) d h hT 12 v28 0 (r32 rfl) hv28 (r32 rfl)) mw_X11_lift rfl (Or.inl (lw_all_tbl q3177)) (lw_all_tbl qs113) (lw_all_tbl q3179) (fun t => rc_t o hT t) wt_0 rfl dX11_closePart_432 rfl (rs := fun r => [vI r]) (fun _ => rfl) (fun v29 hv29 => ?_)
                refine s_pop o dX11_closePart_435 rfl ?_
                refine s_goto (tgt := 460) o dX11_closePart_436 (by decide) ?_
                exact s_vret o rfl dX11_closePart_460 (fun _ hh => hh)
              · refine s_aload_n o dX11_closePart_400 rfl 0 rfl ?_
                refine s_bipush o dX11_closePart_401 rfl ?_
                refine s_aload_n o dX11_closePart_403 rfl 0 rfl ?_
                refine s_iload_n o dX11_closePart_404 rfl 1 rfl ?_
                refine s_aload_n o dX11_closePart_405 rfl 0 rfl ?_
                refine s_tga (x := 29) o hT tf_values ta_values (lw_all_tbl q2522) dX11_closePart_406 ?_
                refine s_iload_n o dX11_closePart_409 rfl 2 rfl ?_
                refine r_tiald o hT tr_values hl2 dX11_closePart_410 (fun v30 hv30 => ?_)
                refine s_cv (d := d + 0) (C := "LazyForgeModel") (As := [vI l1, vI v30]) (st := [vI 13, vA (mg Γ) 21]) o (st_local (mg Γ) d h hT l1 v30 hl1 hv30) mw_X11_local rfl (Or.inl (lw_all_tbl q3181)) (lw_all_tbl qs114) (lw_all_tbl q3183) (fun t => rc_t o hT t) (wt_I (wt_A wt_0)) rfl dX11_closePart_411 rfl (rs := fun r => [vI r, vI 13, vA (mg Γ) 21]) (fun _ => rfl) (fun v31 hv31 => ?_)
                refine s_iconst o dX11_closePart_414 ?_
                refine s_cv (d := d + 0) (C := "LazyForgeModel") (As := [vI 13, vI v31, vI 0]) (st := []) o (st_lift (mg Γ) d h hT 13 v31 0 (r32 rfl) (hv31 _ rfl) (r32 rfl)) mw_X11_lift rfl (Or.inl (lw_all_tbl q3177)) (lw_all_tbl qs113) (lw_all_tbl q3179) (fun t => rc_t o hT t) wt_0 rfl dX11_closePart_415 rfl (rs := fun r => [vI r]) (fun _ => rfl) (fun v32 hv32 => ?_)
                refine s_pop o dX11_closePart_418 rfl ?_
                refine s_goto (tgt := 460) o dX11_closePart_419 (by decide) ?_
                exact s_vret o rfl dX11_closePart_460 (fun _ hh => hh)
            · refine s_case (P := True) (fun e32 => ?_) (fun e32 => ?_)
              · refine s_tabE o e32 dX11_closePart_6 (r32 rfl) rfl rfl (tgt := 439) (by decide) ?_
                refine s_aload_n o dX11_closePart_439 rfl 0 rfl ?_
                refine s_aload_n o dX11_closePart_440 rfl 0 rfl ?_
                refine s_tga (x := 24) o hT tf_kinds ta_kinds (lw_all_tbl q2517) dX11_closePart_441 ?_
                refine s_iload_n o dX11_closePart_444 rfl 2 rfl ?_
                refine r_tiald o hT tr_kinds hl2 dX11_closePart_445 (fun v34 hv34 => ?_)
                refine s_aload_n o dX11_closePart_446 rfl 0 rfl ?_
                refine s_tga (x := 29) o hT tf_values ta_values (lw_all_tbl q2522) dX11_closePart_447 ?_
                refine s_iload_n o dX11_closePart_450 rfl 2 rfl ?_
                refine r_tiald o hT tr_values hl2 dX11_closePart_451 (fun v35 hv35 => ?_)
                refine s_iconst o dX11_closePart_452 ?_
                refine s_cv (d := d + 0) (C := "LazyForgeModel") (As := [vI v34, vI v35, vI 0]) (st := []) o (st_lift (mg Γ) d h hT v34 v35 0 hv34 hv35 (r32 rfl)) mw_X11_lift rfl (Or.inl (lw_all_tbl q3177)) (lw_all_tbl qs113) (lw_all_tbl q3179) (fun t => rc_t o hT t) wt_0 rfl dX11_closePart_453 rfl (rs := fun r => [vI r]) (fun _ => rfl) (fun v36 hv36 => ?_)
                refine s_pop o dX11_closePart_456 rfl ?_
                refine s_goto (tgt := 460) o dX11_closePart_457 (by decide) ?_
                exact s_vret o rfl dX11_closePart_460 (fun _ hh => hh)
              · refine s_case (P := True) (fun e36 => ?_) (fun e36 => ?_)
                · refine s_tabE o e36 dX11_closePart_6 (r32 rfl) rfl rfl (tgt := 439) (by decide) ?_
                  refine s_aload_n o dX11_closePart_439 rfl 0 rfl ?_
                  refine s_aload_n o dX11_closePart_440 rfl 0 rfl ?_
                  refine s_tga (x := 24) o hT tf_kinds ta_kinds (lw_all_tbl q2517) dX11_closePart_441 ?_
                  refine s_iload_n o dX11_closePart_444 rfl 2 rfl ?_
                  refine r_tiald o hT tr_kinds hl2 dX11_closePart_445 (fun v38 hv38 => ?_)
                  refine s_aload_n o dX11_closePart_446 rfl 0 rfl ?_
                  refine s_tga (x := 29) o hT tf_values ta_values (lw_all_tbl q2522) dX11_closePart_447 ?_
                  refine s_iload_n o dX11_closePart_450 rfl 2 rfl ?_
                  refine r_tiald o hT tr_values hl2 dX11_closePart_451 (fun v39 hv39 => ?_)
                  refine s_iconst o dX11_closePart_452 ?_
                  refine s_cv (d := d + 0) (C := "LazyForgeModel") (As := [vI v38, vI v39, vI 0]) (st := []) o (st_lift (mg Γ) d h hT v38 v39 0 hv38 hv39 (r32 rfl)) mw_X11_lift rfl (Or.inl (lw_all_tbl q3177)) (lw_all_tbl qs113) (lw_all_tbl q3179) (fun t => rc_t o hT t) wt_0 rfl dX11_closePart_453 rfl (rs := fun r => [vI r]) (fun _ => rfl) (fun v40 hv40 => ?_)
                  refine s_pop o dX11_closePart_456 rfl ?_
                  refine s_goto (tgt := 460) o dX11_closePart_457 (by decide) ?_
                  exact s_vret o rfl dX11_closePart_460 (fun _ hh => hh)
                · refine s_case (P := True) (fun e40 => ?_) (fun e40 => ?_)
                  · refine s_tabE o e40 dX11_closePart_6 (r32 rfl) rfl rfl (tgt := 439) (by decide) ?_
                    refine s_aload_n o dX11_closePart_439 rfl 0 rfl ?_
                    refine s_aload_n o dX11_closePart_440 rfl 0 rfl ?_
                    refine s_tga (x := 24) o hT tf_kinds ta_kinds (lw_all_tbl q2517) dX11_closePart_441 ?_
                    refine s_iload_n o dX11_closePart_444 rfl 2 rfl ?_
                    refine r_tiald o hT tr_kinds hl2 dX11_closePart_445 (fun v42 hv42 => ?_)
                    refine s_aload_n o dX11_closePart_446 rfl 0 rfl ?_
                    refine s_tga (x := 29) o hT tf_values ta_values (lw_all_tbl q2522) dX11_closePart_447 ?_
                    refine s_iload_n o dX11_closePart_450 rfl 2 rfl ?_
                    refine r_tiald o hT tr_values hl2 dX11_closePart_451 (fun v43 hv43 => ?_)
                    refine s_iconst o dX11_closePart_452 ?_
                    refine s_cv (d := d + 0) (C := "LazyForgeModel") (As := [vI v42, vI v43, vI 0]) (st := []) o (st_lift (mg Γ) d h hT v42 v43 0 hv42 hv43 (r32 rfl)) mw_X11_lift rfl (Or.inl (lw_all_tbl q3177)) (lw_all_tbl qs113) (lw_all_tbl q3179) (fun t => rc_t o hT t) wt_0 rfl dX11_closePart_453 rfl (rs := fun r => [vI r]) (fun _ => rfl) (fun v44 hv44 => ?_)
                    refine s_pop o dX11_closePart_456 rfl ?_
                    refine s_goto (tgt := 460) o dX11_closePart_457 (by decide) ?_
                    exact s_vret o rfl dX11_closePart_460 (fun _ hh => hh)
                  · refine s_split (x := v1) (v := 1) (fun e44 => ?_) (fun e44 => ?_)
                    · refine s_tabE o e44 dX11_closePart_6 (r32 rfl) rfl rfl (tgt := 460) (by decide) ?_
                      exact s_vret o rfl dX11_closePart_460 (fun _ hh => hh)
                    · refine s_split (x := v1) (v := 2) (fun e45 => ?_) (fun e45 => ?_)
                      · refine s_tabE o e45 dX11_closePart_6 (r32 rfl) rfl rfl (tgt := 460) (by decide) ?_
                        exact s_vret o rfl dX11_closePart_460 (fun _ hh => hh)
                      · refine s_split (x := v1) (v := 4) (fun e46 => ?_) (fun e46 => ?_)
                        · refine s_tabE o e46 dX11_closePart_6 (r32 rfl) rfl rfl (tgt := 460) (by decide) ?_
                          exact s_vret o rfl dX11_closePart_460 (fun _ hh => hh)
                        · refine s_tabOut o dX11_closePart_6 hv1 (by omega) (tgt := 460) (by decide) ?_
                          exact s_vret o rfl dX11_closePart_460 (fun _ hh => hh)
theorem dX11_liftFunction_0 : decode cX11_liftFunction 0 = .ok (.aload_n 0, 1) := by decide +kernel
theorem dX11_liftFunction_1 : decode cX11_liftFunction 1 = .ok (.bipush 12, 2) := by decide +kernel
theorem dX11_liftFunction_3 : decode cX11_liftFunction 3 = .ok (.iload_n 2, 1) := by decide +kernel
theorem dX11_liftFunction_4 : decode cX11_liftFunction 4 = .ok (.iconst 0, 1) := by decide +kernel
theorem dX11_liftFunction_5 : decode cX11_liftFunction 5 = .ok (.invokevirtual 529, 3) := by decide +kernel
theorem dX11_liftFunction_8 : decode cX11_liftFunction 8 = .ok (.pop, 1) := by decide +kernel
theorem dX11_liftFunction_9 : decode cX11_liftFunction 9 = .ok (.iconst 0, 1) := by decide +kernel
theorem dX11_liftFunction_10 : decode cX11_liftFunction 10 = .ok (.istore_n 3, 1) := by decide +kernel
theorem dX11_liftFunction_11 : decode cX11_liftFunction 11 = .ok (.iload_n 3, 1) := by decide +kernel
theorem dX11_liftFunction_12 : decode cX11_liftFunction 12 = .ok (.aload_n 0, 1) := by decide +kernel
theorem dX11_liftFunction_13 : decode cX11_liftFunction 13 = .ok (.getfield 83, 3) := by decide +kernel
theorem dX11_liftFunction_16 : decode cX11_liftFunction 16 = .ok (.iload_n 2, 1) := by decide +kernel
theorem dX11_liftFunction_17 : decode cX11_liftFunction 17 = .ok (.iaload, 1) := by decide +kernel
theorem dX11_liftFunction_18 : decode cX11_liftFunction 18 = .ok (.if_icmp .ge 33, 3) := by decide +kernel
theorem dX11_liftFunction_21 : decode cX11_liftFunction 21 = .ok (.aload_n 0, 1) := by decide +kernel
theorem dX11_liftFunction_22 : decode cX11_liftFunction 22 = .ok (.bipush 13, 2) := by decide +kernel
theorem dX11_liftFunction_24 : decode cX11_liftFunction 24 = .ok (.aload_n 0, 1) := by decide +kernel
theorem dX11_liftFunction_25 : decode cX11_liftFunction 25 = .ok (.iload_n 1, 1) := by decide +kernel
theorem dX11_liftFunction_26 : decode cX11_liftFunction 26 = .ok (.aload_n 0, 1) := by decide +kernel
theorem dX11_liftFunction_27 : decode cX11_liftFunction 27 = .ok (.getfield 86, 3) := by decide +kernel
theorem dX11_liftFunction_30 : decode cX11_liftFunction 30 = .ok (.bipush 9, 2) := by decide +kernel
theorem dX11_liftFunction_32 : decode cX11_liftFunction 32 = .ok (.iload_n 2, 1) := by decide +kernel
theorem dX11_liftFunction_33 : decode cX11_liftFunction 33 = .ok (.imul, 1) := by decide +kernel
theorem dX11_liftFunction_34 : decode cX11_liftFunction 34 = .ok (.iload_n 3, 1) := by decide +kernel
theorem dX11_liftFunction_35 : decode cX11_liftFunction 35 = .ok (.iadd, 1) := by decide +kernel
theorem dX11_liftFunction_36 : decode cX11_liftFunction 36 = .ok (.iaload, 1) := by decide +kernel
theorem dX11_liftFunction_37 : decode cX11_liftFunction 37 = .ok (.invokevirtual 532, 3) := by decide +kernel
theorem dX11_liftFunction_40 : decode cX11_liftFunction 40 = .ok (.iconst 0, 1) := by decide +kernel
theorem dX11_liftFunction_41 : decode cX11_liftFunction 41 = .ok (.invokevirtual 529, 3) := by decide +kernel
theorem dX11_liftFunction_44 : decode cX11_liftFunction 44 = .ok (.pop, 1) := by decide +kernel
theorem dX11_liftFunction_45 : decode cX11_liftFunction 45 = .ok (.iinc 3 1, 3) := by decide +kernel
theorem dX11_liftFunction_48 : decode cX11_liftFunction 48 = .ok (.goto (-37), 3) := by decide +kernel
theorem dX11_liftFunction_51 : decode cX11_liftFunction 51 = .ok (.aload_n 0, 1) := by decide +kernel
theorem dX11_liftFunction_52 : decode cX11_liftFunction 52 = .ok (.getfield 83, 3) := by decide +kernel
theorem dX11_liftFunction_55 : decode cX11_liftFunction 55 = .ok (.iload_n 2, 1) := by decide +kernel
theorem dX11_liftFunction_56 : decode cX11_liftFunction 56 = .ok (.iaload, 1) := by decide +kernel
theorem dX11_liftFunction_57 : decode cX11_liftFunction 57 = .ok (.ifCond .le 19, 3) := by decide +kernel
theorem dX11_liftFunction_60 : decode cX11_liftFunction 60 = .ok (.aload_n 0, 1) := by decide +kernel
theorem dX11_liftFunction_61 : decode cX11_liftFunction 61 = .ok (.bipush 6, 2) := by decide +kernel
theorem dX11_liftFunction_63 : decode cX11_liftFunction 63 = .ok (.iconst 0, 1) := by decide +kernel
theorem dX11_liftFunction_64 : decode cX11_liftFunction 64 = .ok (.iconst 1, 1) := by decide +kernel
theorem dX11_liftFunction_65 : decode cX11_liftFunction 65 = .ok (.aload_n 0, 1) := by decide +kernel
theorem dX11_liftFunction_66 : decode cX11_liftFunction 66 = .ok (.getfield 83, 3) := by decide +kernel
theorem dX11_liftFunction_69 : decode cX11_liftFunction 69 = .ok (.iload_n 2, 1) := by decide +kernel
theorem dX11_liftFunction_70 : decode cX11_liftFunction 70 = .ok (.iaload, 1) := by decide +kernel
theorem dX11_liftFunction_71 : decode cX11_liftFunction 71 = .ok (.iadd, 1) := by decide +kernel
theorem dX11_liftFunction_72 : decode cX11_liftFunction 72 = .ok (.invokevirtual 529, 3) := by decide +kernel
theorem dX11_liftFunction_75 : decode cX11_liftFunction 75 = .ok (.pop, 1) := by decide +kernel
theorem dX11_liftFunction_76 : decode cX11_liftFunction 76 = .ok (.return_, 1) := by decide +kernel
theorem mw_X11_liftFunction : MW yX11_liftFunction (Cond.code yX11_liftFunction cX11_liftFunction 4 (Option.none : Option Jvm.ClassFile.FieldType)) cX11_liftFunction 4 (Option.none : Option Jvm.ClassFile.FieldType) 2 := ⟨rfl, ⟨(lw_all_tbl q3196), rfl, (lw_all_tbl q173)⟩, rfl, ⟨by decide, by decide⟩, by decide +kernel⟩
abbrev okt_liftFunction_11 (x : Int × Int × Int) : Prop := R32 x.1 ∧ R32 x.2.1 ∧ R32 x.2.2
abbrev lvt_liftFunction_11 (Γ : Gm) (x : Int × Int × Int) : List (Nat × Value) := [(0, vA (mg Γ) 21), (1, vI x.1), (2, vI x.2.1), (3, vI x.2.2)]
noncomputable def t_liftFunction_11b {A : Type} (k_51 : Int → Mo TS A) (l1 : Int) (l2 : Int) (l3 : Int) : Mo TS ((Int × Int × Int) ⊕ A) :=
  bnd (rd 48 640 l2) fun v1 =>
  if v1 ≤ l3 then
    lo (k_51 l2)
  else
    bnd (rd 49 5760 (w32 ((w32 (9 * l2)) + l3))) fun v2 =>
    bnd (t_local l1 v2) fun v3 =>
    bnd (t_lift 13 v3 0) fun v4 =>
    pr (.inl (l1, l2, (w32 (l3 + 1))))
theorem st_liftFunction_11b {Γ : Gm} {h : CH} {d : Nat} (hT : HT h) (o : Ok Γ "LazyForgeModel" cX11_liftFunction 4 (Option.none : Option Jvm.ClassFile.FieldType) (d + 1)) {A : Type} {K : A → TS → Prop} (k_51 : Int → Mo TS A) (hk_51 : ∀ (l2 : Int), R32 l2 → Sx Γ (fun t => (h, t)) K 51 [(0, vA (mg Γ) 21), (2, vI l2)] [] (k_51 l2)) (l1 : Int) (l2 : Int) (l3 : Int) (hl1 : R32 l1) (hl2 : R32 l2) (hl3 : R32 l3) : Sx Γ (fun t => (h, t)) (KL Γ (fun t => (h, t)) okt_liftFunction_11 K 11 (lvt_liftFunction_11 Γ) []) 11 [(0, vA (mg Γ) 21), (1, vI l1), (2, vI l2), (3, vI l3)] [] (t_liftFunction_11b k_51 l1 l2 l3) := by
  unfold t_liftFunction_11b
  refine s_iload_n o dX11_liftFunction_11 rfl 3 rfl ?_
  refine s_aload_n o dX11_liftFunction_12 rfl 0 rfl ?_
  refine s_tga (x := 46) o hT tf_freeCounts ta_freeCounts (lw_all_tbl q2552) dX11_liftFunction_13 ?_
  refine s_iload_n o dX11_liftFunction_16 rfl 2 rfl ?_
  refine r_tiald o hT tr_freeCounts hl2 dX11_liftFunction_17 (fun v1 hv1 => ?_)
  refine s_icmp_ge (tgt := 51) o dX11_liftFunction_18 (by decide) hl3 hv1 ?_ ?_
  · refine r_to [(0, vA (mg Γ) 21), (2, vI l2)] [0, 2] rfl ?_
    exact s_lo (hk_51 l2 hl2)
  · refine s_aload_n o dX11_liftFunction_21 rfl 0 rfl ?_
    refine s_bipush o dX11_liftFunction_22 rfl ?_
    refine s_aload_n o dX11_liftFunction_24 rfl 0 rfl ?_
    refine s_iload_n o dX11_liftFunction_25 rfl 1 rfl ?_
    refine s_aload_n o dX11_liftFunction_26 rfl 0 rfl ?_
    refine s_tga (x := 47) o hT tf_frees ta_frees (lw_all_tbl q2553) dX11_liftFunction_27 ?_
    refine s_bipush o dX11_liftFunction_30 rfl ?_
    refine s_iload_n o dX11_liftFunction_32 rfl 2 rfl ?_
    refine s_imul o dX11_liftFunction_33 ?_
    refine s_iload_n o dX11_liftFunction_34 rfl 3 rfl ?_
    refine s_iadd o dX11_liftFunction_35 ?_
    refine r_tiald o hT tr_frees (w32_R _) dX11_liftFunction_36 (fun v2 hv2 => ?_)
    refine s_cv (d := d + 0) (C := "LazyForgeModel") (As := [vI l1, vI v2]) (st := [vI 13, vA (mg Γ) 21]) o (st_local (mg Γ) d h hT l1 v2 hl1 hv2) mw_X11_local rfl (Or.inl (lw_all_tbl q3181)) (lw_all_tbl qs114) (lw_all_tbl q3183) (fun t => rc_t o hT t) (wt_I (wt_A wt_0)) rfl dX11_liftFunction_37 rfl (rs := fun r => [vI r, vI 13, vA (mg Γ) 21]) (fun _ => rfl) (fun v3 hv3 => ?_)
    refine s_iconst o dX11_liftFunction_40 ?_
    refine s_cv (d := d + 0) (C := "LazyForgeModel") (As := [vI 13, vI v3, vI 0]) (st := []) o (st_lift (mg Γ) d h hT 13 v3 0 (r32 rfl) (hv3 _ rfl) (r32 rfl)) mw_X11_lift rfl (Or.inl (lw_all_tbl q3177)) (lw_all_tbl qs113) (lw_all_tbl q3179) (fun t => rc_t o hT t) wt_0 rfl dX11_liftFunction_41 rfl (rs := fun r => [vI r]) (fun _ => rfl) (fun v4 hv4 => ?_)
    refine s_pop o dX11_liftFunction_44 rfl ?_
    refine r_iinc (j := 3) o dX11_liftFunction_45 rfl rfl [(0, vA (mg Γ) 21), (1, vI l1), (2, vI l2)] [0, 1, 2] rfl ⟨(Nat.ne_of_beq_eq_false rfl), (fun _ => (vA_cat (mg Γ) 21)), ⟨(Nat.ne_of_beq_eq_false rfl), (fun _ => rfl), ⟨(Nat.ne_of_beq_eq_false rfl), (fun _ => rfl), trivial⟩⟩⟩ ?_
    refine s_goto (tgt := 11) o dX11_liftFunction_48 (by decide) ?_
    refine r_to [(0, vA (mg Γ) 21), (1, vI l1), (2, vI l2), (3, vI (w32 (l3 + 1)))] [1, 2, 3, 0] rfl ?_
    exact s_back (⟨hl1, hl2, (w32_R _)⟩) rfl
noncomputable def t_liftFunction_11 {A : Type} (k_51 : Int → Mo TS A) (l1 : Int) (l2 : Int) (l3 : Int) : Mo TS A := Loop (fun x => t_liftFunction_11b k_51 x.1 x.2.1 x.2.2) (l1, l2, l3)
theorem st_liftFunction_11 {Γ : Gm} {h : CH} {d : Nat} (hT : HT h) (o : Ok Γ "LazyForgeModel" cX11_liftFunction 4 (Option.none : Option Jvm.ClassFile.FieldType) (d + 1)) {A : Type} {K : A → TS → Prop} (k_51 : Int → Mo TS A) (hk_51 : ∀ (l2 : Int), R32 l2 → Sx Γ (fun t => (h, t)) K 51 [(0, vA (mg Γ) 21), (2, vI l2)] [] (k_51 l2)) (l1 : Int) (l2 : Int) (l3 : Int) (hl1 : R32 l1) (hl2 : R32 l2) (hl3 : R32 l3) : Sx Γ (fun t => (h, t)) K 11 [(0, vA (mg Γ) 21), (1, vI l1), (2, vI l2), (3, vI l3)] [] (t_liftFunction_11 k_51 l1 l2 l3) :=
  s_loop okt_liftFunction_11 (lvt_liftFunction_11 Γ) (fun x hx => st_liftFunction_11b hT o k_51 hk_51 x.1 x.2.1 x.2.2 hx.1 hx.2.1 hx.2.2) (x := (l1, l2, l3)) ⟨hl1, hl2, hl3⟩
noncomputable def t_liftFunction (l1 : Int) (l2 : Int) : Mo TS Int :=
  bnd (t_lift 12 l2 0) fun v1 =>
  t_liftFunction_11
    (fun v2 => bnd (rd 48 640 v2) fun v3 =>
  if v3 ≤ 0 then
    pr 0
  else
    bnd (rd 48 640 v2) fun v4 =>
    bnd (t_lift 6 0 (w32 (1 + v4))) fun v5 =>
    pr 0) l1 l2 0
theorem st_liftFunction (g : gC) (d : Nat) (h : CH) (hT : HT h) (l1 : Int) (l2 : Int) (hl1 : R32 l1) (hl2 : R32 l2) : SF g yX11_liftFunction (Cond.code yX11_liftFunction cX11_liftFunction 4 (Option.none : Option Jvm.ClassFile.FieldType)) (Option.none : Option Jvm.ClassFile.FieldType) (d + 1) [vA g 21, vI l1, vI l2] (fun t => (h, t)) (t_liftFunction l1 l2) := by
  refine SF.of (lv := [(0, vA g 21), (1, vI l1), (2, vI l2)]) (by decide) (wt_A (wt_I (wt_I wt_0))) rfl (by simp only [la_A, la_I, la_J, la_0]) (fun Γ hg hnm o => ?_)
  subst hg
  have o : Ok Γ "LazyForgeModel" cX11_liftFunction 4 (Option.none : Option Jvm.ClassFile.FieldType) (d + 1) := o
  unfold t_liftFunction
  refine s_aload_n o dX11_liftFunction_0 rfl 0 rfl ?_
  refine s_bipush o dX11_liftFunction_1 rfl ?_
  refine s_iload_n o dX11_liftFunction_3 rfl 2 rfl ?_
  refine s_iconst o dX11_liftFunction_4 ?_
  refine s_cv (d := d + 0) (C := "LazyForgeModel") (As := [vI 12, vI l2, vI 0]) (st := []) o (st_lift (mg Γ) d h hT 12 l2 0 (r32 rfl) hl2 (r32 rfl)) mw_X11_lift rfl (Or.inl (lw_all_tbl q3177)) (lw_all_tbl qs113) (lw_all_tbl q3179) (fun t => rc_t o hT t) wt_0 rfl dX11_liftFunction_5 rfl (rs := fun r => [vI r]) (fun _ => rfl) (fun v1 hv1 => ?_)
  refine s_pop o dX11_liftFunction_8 rfl ?_
  refine s_iconst o dX11_liftFunction_9 ?_
  refine r_istore_n o dX11_liftFunction_10 rfl rfl ⟨(Nat.ne_of_beq_eq_false rfl), (fun _ => (vA_cat (mg Γ) 21)), ⟨(Nat.ne_of_beq_eq_false rfl), (fun _ => rfl), ⟨(Nat.ne_of_beq_eq_false rfl), (fun _ => rfl), trivial⟩⟩⟩ ?_
  refine r_to [(0, vA (mg Γ) 21), (1, vI l1), (2, vI l2), (3, vI 0)] [1, 2, 3, 0] rfl ?_
  refine st_liftFunction_11 hT o _ ?_ l1 l2 0 hl1 hl2 (r32 rfl)
  · intro v2 hv2
    refine s_aload_n o dX11_liftFunction_51 rfl 0 rfl ?_
    refine s_tga (x := 46) o hT tf_freeCounts ta_freeCounts (lw_all_tbl q2552) dX11_liftFunction_52 ?_
    refine s_iload_n o dX11_liftFunction_55 rfl 1 rfl ?_
    refine r_tiald o hT tr_freeCounts hv2 dX11_liftFunction_56 (fun v3 hv3 => ?_)
    refine s_if_le (tgt := 76) o dX11_liftFunction_57 (by decide) hv3 ?_ ?_
    · exact s_vret o rfl dX11_liftFunction_76 (fun _ hh => hh)
    · refine s_aload_n o dX11_liftFunction_60 rfl 0 rfl ?_
      refine s_bipush o dX11_liftFunction_61 rfl ?_
      refine s_iconst o dX11_liftFunction_63 ?_
      refine s_iconst o dX11_liftFunction_64 ?_
      refine s_aload_n o dX11_liftFunction_65 rfl 0 rfl ?_
      refine s_tga (x := 46) o hT tf_freeCounts ta_freeCounts (lw_all_tbl q2552) dX11_liftFunction_66 ?_
      refine s_iload_n o dX11_liftFunction_69 rfl 1 rfl ?_
      refine r_tiald o hT tr_freeCounts hv2 dX11_liftFunction_70 (fun v4 hv4 => ?_)
      refine s_iadd o dX11_liftFunction_71 ?_
      refine s_cv (d := d + 0) (C := "LazyForgeModel") (As := [vI 6, vI 0, vI (w32 (1 + v4))]) (st := []) o (st_lift (mg Γ) d h hT 6 0 (w32 (1 + v4)) (r32 rfl) (r32 rfl) (w32_R _)) mw_X11_lift rfl (Or.inl (lw_all_tbl q3177)) (lw_all_tbl qs113) (lw_all_tbl q3179) (fun t => rc_t o hT t) wt_0 rfl dX11_liftFunction_72 rfl (rs := fun r => [vI r]) (fun _ => rfl) (fun v5 hv5 => ?_)
      refine s_pop o dX11_liftFunction_75 rfl ?_
      exact s_vret o rfl dX11_liftFunction_76 (fun _ hh => hh)
theorem dX11_appliedBit_0 : decode cX11_appliedBit 0 = .ok (.aload_n 0, 1) := by decide +kernel
theorem dX11_appliedBit_1 : decode cX11_appliedBit 1 = .ok (.iload_n 1, 1) := by decide +kernel
theorem dX11_appliedBit_2 : decode cX11_appliedBit 2 = .ok (.iconst 0, 1) := by decide +kernel
theorem dX11_appliedBit_3 : decode cX11_appliedBit 3 = .ok (.invokevirtual 545, 3) := by decide +kernel
theorem dX11_appliedBit_6 : decode cX11_appliedBit 6 = .ok (.istore_n 2, 1) := by decide +kernel
theorem dX11_appliedBit_7 : decode cX11_appliedBit 7 = .ok (.aload_n 0, 1) := by decide +kernel
theorem dX11_appliedBit_8 : decode cX11_appliedBit 8 = .ok (.getfield 119, 3) := by decide +kernel
theorem dX11_appliedBit_11 : decode cX11_appliedBit 11 = .ok (.iload_n 2, 1) := by decide +kernel
theorem dX11_appliedBit_12 : decode cX11_appliedBit 12 = .ok (.iaload, 1) := by decide +kernel
theorem dX11_appliedBit_13 : decode cX11_appliedBit 13 = .ok (.bipush 12, 2) := by decide +kernel
theorem dX11_appliedBit_15 : decode cX11_appliedBit 15 = .ok (.if_icmp .eq 10, 3) := by decide +kernel
theorem dX11_appliedBit_18 : decode cX11_appliedBit 18 = .ok (.aload_n 0, 1) := by decide +kernel
theorem dX11_appliedBit_19 : decode cX11_appliedBit 19 = .ok (.getfield 181, 3) := by decide +kernel
theorem dX11_appliedBit_22 : decode cX11_appliedBit 22 = .ok (.iload_n 2, 1) := by decide +kernel
theorem dX11_appliedBit_23 : decode cX11_appliedBit 23 = .ok (.baload, 1) := by decide +kernel
theorem dX11_appliedBit_24 : decode cX11_appliedBit 24 = .ok (.ireturn, 1) := by decide +kernel
theorem dX11_appliedBit_25 : decode cX11_appliedBit 25 = .ok (.aload_n 0, 1) := by decide +kernel
theorem dX11_appliedBit_26 : decode cX11_appliedBit 26 = .ok (.getfield 122, 3) := by decide +kernel
theorem dX11_appliedBit_29 : decode cX11_appliedBit 29 = .ok (.iload_n 2, 1) := by decide +kernel
theorem dX11_appliedBit_30 : decode cX11_appliedBit 30 = .ok (.iaload, 1) := by decide +kernel
theorem dX11_appliedBit_31 : decode cX11_appliedBit 31 = .ok (.istore_n 3, 1) := by decide +kernel
theorem dX11_appliedBit_32 : decode cX11_appliedBit 32 = .ok (.aload_n 0, 1) := by decide +kernel
theorem dX11_appliedBit_33 : decode cX11_appliedBit 33 = .ok (.getfield 171, 3) := by decide +kernel
theorem dX11_appliedBit_36 : decode cX11_appliedBit 36 = .ok (.iload_n 3, 1) := by decide +kernel
theorem dX11_appliedBit_37 : decode cX11_appliedBit 37 = .ok (.iaload, 1) := by decide +kernel
theorem dX11_appliedBit_38 : decode cX11_appliedBit 38 = .ok (.istore 4, 2) := by decide +kernel
theorem dX11_appliedBit_40 : decode cX11_appliedBit 40 = .ok (.aload_n 0, 1) := by decide +kernel
theorem dX11_appliedBit_41 : decode cX11_appliedBit 41 = .ok (.getfield 128, 3) := by decide +kernel
theorem dX11_appliedBit_44 : decode cX11_appliedBit 44 = .ok (.iload_n 1, 1) := by decide +kernel
theorem dX11_appliedBit_45 : decode cX11_appliedBit 45 = .ok (.iaload, 1) := by decide +kernel
theorem dX11_appliedBit_46 : decode cX11_appliedBit 46 = .ok (.iconst 1, 1) := by decide +kernel
theorem dX11_appliedBit_47 : decode cX11_appliedBit 47 = .ok (.isub, 1) := by decide +kernel
theorem dX11_appliedBit_48 : decode cX11_appliedBit 48 = .ok (.iload 4, 2) := by decide +kernel
theorem dX11_appliedBit_50 : decode cX11_appliedBit 50 = .ok (.if_icmp .ge 5, 3) := by decide +kernel
theorem dX11_appliedBit_53 : decode cX11_appliedBit 53 = .ok (.iconst 1, 1) := by decide +kernel
theorem dX11_appliedBit_54 : decode cX11_appliedBit 54 = .ok (.ireturn, 1) := by decide +kernel
theorem dX11_appliedBit_55 : decode cX11_appliedBit 55 = .ok (.iconst 0, 1) := by decide +kernel
theorem dX11_appliedBit_56 : decode cX11_appliedBit 56 = .ok (.istore 5, 2) := by decide +kernel
theorem dX11_appliedBit_58 : decode cX11_appliedBit 58 = .ok (.iconst 0, 1) := by decide +kernel
theorem dX11_appliedBit_59 : decode cX11_appliedBit 59 = .ok (.istore 6, 2) := by decide +kernel
theorem dX11_appliedBit_61 : decode cX11_appliedBit 61 = .ok (.iload 6, 2) := by decide +kernel
theorem dX11_appliedBit_63 : decode cX11_appliedBit 63 = .ok (.iload 4, 2) := by decide +kernel
theorem dX11_appliedBit_65 : decode cX11_appliedBit 65 = .ok (.if_icmp .ge 39, 3) := by decide +kernel
theorem dX11_appliedBit_68 : decode cX11_appliedBit 68 = .ok (.iload 5, 2) := by decide +kernel
theorem dX11_appliedBit_70 : decode cX11_appliedBit 70 = .ok (.aload_n 0, 1) := by decide +kernel
theorem dX11_appliedBit_71 : decode cX11_appliedBit 71 = .ok (.getfield 181, 3) := by decide +kernel
theorem dX11_appliedBit_74 : decode cX11_appliedBit 74 = .ok (.aload_n 0, 1) := by decide +kernel
theorem dX11_appliedBit_75 : decode cX11_appliedBit 75 = .ok (.iload_n 1, 1) := by decide +kernel
theorem dX11_appliedBit_76 : decode cX11_appliedBit 76 = .ok (.iconst 1, 1) := by decide +kernel
theorem dX11_appliedBit_77 : decode cX11_appliedBit 77 = .ok (.iload 6, 2) := by decide +kernel
theorem dX11_appliedBit_79 : decode cX11_appliedBit 79 = .ok (.iadd, 1) := by decide +kernel
theorem dX11_appliedBit_80 : decode cX11_appliedBit 80 = .ok (.invokevirtual 545, 3) := by decide +kernel
theorem dX11_appliedBit_83 : decode cX11_appliedBit 83 = .ok (.baload, 1) := by decide +kernel
theorem dX11_appliedBit_84 : decode cX11_appliedBit 84 = .ok (.ifCond .eq 10, 3) := by decide +kernel
theorem dX11_appliedBit_87 : decode cX11_appliedBit 87 = .ok (.iconst 1, 1) := by decide +kernel
theorem dX11_appliedBit_88 : decode cX11_appliedBit 88 = .ok (.iload 6, 2) := by decide +kernel
theorem dX11_appliedBit_90 : decode cX11_appliedBit 90 = .ok (.ishl, 1) := by decide +kernel
theorem dX11_appliedBit_91 : decode cX11_appliedBit 91 = .ok (.goto 4, 3) := by decide +kernel
theorem dX11_appliedBit_94 : decode cX11_appliedBit 94 = .ok (.iconst 0, 1) := by decide +kernel
theorem dX11_appliedBit_95 : decode cX11_appliedBit 95 = .ok (.ior, 1) := by decide +kernel
theorem dX11_appliedBit_96 : decode cX11_appliedBit 96 = .ok (.istore 5, 2) := by decide +kernel
theorem dX11_appliedBit_98 : decode cX11_appliedBit 98 = .ok (.iinc 6 1, 3) := by decide +kernel
theorem dX11_appliedBit_101 : decode cX11_appliedBit 101 = .ok (.goto (-40), 3) := by decide +kernel
theorem dX11_appliedBit_104 : decode cX11_appliedBit 104 = .ok (.aload_n 0, 1) := by decide +kernel
theorem dX11_appliedBit_105 : decode cX11_appliedBit 105 = .ok (.iload_n 3, 1) := by decide +kernel
theorem dX11_appliedBit_106 : decode cX11_appliedBit 106 = .ok (.iload 5, 2) := by decide +kernel
theorem dX11_appliedBit_108 : decode cX11_appliedBit 108 = .ok (.invokevirtual 554, 3) := by decide +kernel
theorem dX11_appliedBit_111 : decode cX11_appliedBit 111 = .ok (.ireturn, 1) := by decide +kernel
theorem mw_X11_appliedBit : MW yX11_appliedBit (Cond.code yX11_appliedBit cX11_appliedBit 7 (Option.some Jvm.ClassFile.FieldType.boolean)) cX11_appliedBit 7 (Option.some Jvm.ClassFile.FieldType.boolean) 1 := ⟨rfl, ⟨(lw_all_tbl q3216), rfl, (lw_all_tbl q173)⟩, rfl, ⟨by decide, by decide⟩, by decide +kernel⟩
abbrev okt_appliedBit_61 (x : Int × Int × Int × Int × Int) : Prop := R32 x.1 ∧ R32 x.2.1 ∧ R32 x.2.2.1 ∧ R32 x.2.2.2.1 ∧ R32 x.2.2.2.2
abbrev lvt_appliedBit_61 (Γ : Gm) (x : Int × Int × Int × Int × Int) : List (Nat × Value) := [(0, vA (mg Γ) 21), (1, vI x.1), (3, vI x.2.1), (4, vI x.2.2.1), (5, vI x.2.2.2.1), (6, vI x.2.2.2.2)]
noncomputable def t_appliedBit_95 {A : Type} (k_104 : Int → Int → Mo TS A) (l1 : Int) (l3 : Int) (l4 : Int) (l6 : Int) (k0 : Int) (k1 : Int) : Mo TS ((Int × Int × Int × Int × Int) ⊕ A) :=
  pr (.inl (l1, l3, l4, (ior k1 k0), (w32 (l6 + 1))))
theorem st_appliedBit_95 {Γ : Gm} {h : CH} {d : Nat} (hT : HT h) (o : Ok Γ "LazyForgeModel" cX11_appliedBit 7 (Option.some Jvm.ClassFile.FieldType.boolean) (d + 1)) {A : Type} {K : A → TS → Prop}  (k_104 : Int → Int → Mo TS A) (hk_104 : ∀ (l3 : Int) (l5 : Int), R32 l3 → R32 l5 → Sx Γ (fun t => (h, t)) K 104 [(0, vA (mg Γ) 21), (3, vI l3), (5, vI l5)] [] (k_104 l3 l5)) (l1 : Int) (l3 : Int) (l4 : Int) (l6 : Int) (k0 : Int) (k1 : Int) (hl1 : R32 l1) (hl3 : R32 l3) (hl4 : R32 l4) (hl6 : R32 l6) (hk0 : R32 k0) (hk1 : R32 k1) : Sx Γ (fun t => (h, t)) (KL Γ (fun t => (h, t)) okt_appliedBit_61 K 61 (lvt_appliedBit_61 Γ) []) 95 [(0, vA (mg Γ) 21), (1, vI l1), (3, vI l3), (4, vI l4), (6, vI l6)] [vI k0, vI k1] (t_appliedBit_95 k_104 l1 l3 l4 l6 k0 k1) := by
  unfold t_appliedBit_95
  refine s_ior o dX11_appliedBit_95 ?_
  refine r_istore o dX11_appliedBit_96 rfl ⟨(Nat.ne_of_beq_eq_false rfl), (fun _ => (vA_cat (mg Γ) 21)), ⟨(Nat.ne_of_beq_eq_false rfl), (fun _ => rfl), ⟨(Nat.ne_of_beq_eq_false rfl), (fun _ => rfl), ⟨(Nat.ne_of_beq_eq_false rfl), (fun _ => rfl), ⟨(Nat.ne_of_beq_eq_false rfl), (fun _ => rfl), trivial⟩⟩⟩⟩⟩ ?_
  refine r_iinc (j := 5) o dX11_appliedBit_98 rfl rfl [(5, vI (ior k1 k0)), (0, vA (mg Γ) 21), (1, vI l1), (3, vI l3), (4, vI l4)] [0, 1, 2, 3, 4] rfl ⟨(Nat.ne_of_beq_eq_false rfl), (fun _ => rfl), ⟨(Nat.ne_of_beq_eq_false rfl), (fun _ => (vA_cat (mg Γ) 21)), ⟨(Nat.ne_of_beq_eq_false rfl), (fun _ => rfl), ⟨(Nat.ne_of_beq_eq_false rfl), (fun _ => rfl), ⟨(Nat.ne_of_beq_eq_false rfl), (fun _ => rfl), trivial⟩⟩⟩⟩⟩ ?_
  refine s_goto (tgt := 61) o dX11_appliedBit_101 (by decide) ?_
  refine r_to [(0, vA (mg Γ) 21), (1, vI l1), (3, vI l3), (4, vI l4), (5, vI (ior k1 k0)), (6, vI (w32 (l6 + 1)))] [2, 3, 4, 5, 1, 0] rfl ?_
  exact s_back (⟨hl1, hl3, hl4, (ior_R _ _), (w32_R _)⟩) rfl
noncomputable def t_appliedBit_61b {A : Type} (k_104 : Int → Int → Mo TS A) (l1 : Int) (l3 : Int) (l4 : Int) (l5 : Int) (l6 : Int) : Mo TS ((Int × Int × Int × Int × Int) ⊕ A) :=
  if l4 ≤ l6 then
    lo (k_104 l3 l5)
  else
    bnd (t_child l1 (w32 (1 + l6))) fun v1 =>
    bnd (rd 86 7000 v1) fun v2 =>
    if v2 = 0 then
      t_appliedBit_95 k_104 l1 l3 l4 l6 0 l5
    else
      t_appliedBit_95 k_104 l1 l3 l4 l6 (ishl 1 l6) l5
theorem st_appliedBit_61b {Γ : Gm} {h : CH} {d : Nat} (hT : HT h) (o : Ok Γ "LazyForgeModel" cX11_appliedBit 7 (Option.some Jvm.ClassFile.FieldType.boolean) (d + 1)) {A : Type} {K : A → TS → Prop} (k_104 : Int → Int → Mo TS A) (hk_104 : ∀ (l3 : Int) (l5 : Int), R32 l3 → R32 l5 → Sx Γ (fun t => (h, t)) K 104 [(0, vA (mg Γ) 21), (3, vI l3), (5, vI l5)] [] (k_104 l3 l5)) (l1 : Int) (l3 : Int) (l4 : Int) (l5 : Int) (l6 : Int) (hl1 : R32 l1) (hl3 : R32 l3) (hl4 : R32 l4) (hl5 : R32 l5) (hl6 : R32 l6) : Sx Γ (fun t => (h, t)) (KL Γ (fun t => (h, t)) okt_appliedBit_61 K 61 (lvt_appliedBit_61 Γ) []) 61 [(0, vA (mg Γ) 21), (1, vI l1), (3, vI l3), (4, vI l4), (5, vI l5), (6, vI l6)] [] (t_appliedBit_61b k_104 l1 l3 l4 l5 l6) := by
  unfold t_appliedBit_61b
  refine s_iload o dX11_appliedBit_61 5 rfl ?_
  refine s_iload o dX11_appliedBit_63 3 rfl ?_
  refine s_icmp_ge (tgt := 104) o dX11_appliedBit_65 (by decide) hl6 hl4 ?_ ?_
  · refine r_to [(0, vA (mg Γ) 21), (3, vI l3), (5, vI l5)] [0, 2, 4] rfl ?_
    exact s_lo (hk_104 l3 l5 hl3 hl5)
  · refine s_iload o dX11_appliedBit_68 4 rfl ?_
    refine s_aload_n o dX11_appliedBit_70 rfl 0 rfl ?_
    refine s_tga (x := 78) o hT tf_bitOf ta_bitOf (lw_all_tbl q2590) dX11_appliedBit_71 ?_
    refine s_aload_n o dX11_appliedBit_74 rfl 0 rfl ?_
    refine s_iload_n o dX11_appliedBit_75 rfl 1 rfl ?_
    refine s_iconst o dX11_appliedBit_76 ?_
    refine s_iload o dX11_appliedBit_77 5 rfl ?_
    refine s_iadd o dX11_appliedBit_79 ?_
    refine s_cv (d := d + 0) (C := "LazyForgeModel") (As := [vI l1, vI (w32 (1 + l6))]) (st := [vA (mg Γ) 78, vI l5]) o (st_child (mg Γ) d h hT l1 (w32 (1 + l6)) hl1 (w32_R _)) mw_X11_child rfl (Or.inl (lw_all_tbl q3189)) (lw_all_tbl qs115) (lw_all_tbl q3191) (fun t => rc_t o hT t) (wt_A (wt_I wt_0)) rfl dX11_appliedBit_80 rfl (rs := fun r => [vI r, vA (mg Γ) 78, vI l5]) (fun _ => rfl) (fun v1 hv1 => ?_)
    refine r_tzald o hT tr_bitOf (hv1 _ rfl) dX11_appliedBit_83 (fun v2 hv2 => ?_)
    refine s_if_eq (tgt := 94) o dX11_appliedBit_84 (by decide) (rZ hv2) ?_ ?_
    · refine s_iconst o dX11_appliedBit_94 ?_
      refine r_to [(0, vA (mg Γ) 21), (1, vI l1), (3, vI l3), (4, vI l4), (6, vI l6)] [0, 1, 2, 3, 5] rfl ?_
      exact st_appliedBit_95 hT o k_104 hk_104 l1 l3 l4 l6 0 l5 hl1 hl3 hl4 hl6 (r32 rfl) hl5
    · refine s_iconst o dX11_appliedBit_87 ?_
      refine s_iload o dX11_appliedBit_88 5 rfl ?_
      refine s_ishl o dX11_appliedBit_90 ?_
      refine s_goto (tgt := 95) o dX11_appliedBit_91 (by decide) ?_
      refine r_to [(0, vA (mg Γ) 21), (1, vI l1), (3, vI l3), (4, vI l4), (6, vI l6)] [0, 1, 2, 3, 5] rfl ?_
      exact st_appliedBit_95 hT o k_104 hk_104 l1 l3 l4 l6 (ishl 1 l6) l5 hl1 hl3 hl4 hl6 (ishl_R _ _) hl5
noncomputable def t_appliedBit_61 {A : Type} (k_104 : Int → Int → Mo TS A) (l1 : Int) (l3 : Int) (l4 : Int) (l5 : Int) (l6 : Int) : Mo TS A := Loop (fun x => t_appliedBit_61b k_104 x.1 x.2.1 x.2.2.1 x.2.2.2.1 x.2.2.2.2) (l1, l3, l4, l5, l6)
theorem st_appliedBit_61 {Γ : Gm} {h : CH} {d : Nat} (hT : HT h) (o : Ok Γ "LazyForgeModel" cX11_appliedBit 7 (Option.some Jvm.ClassFile.FieldType.boolean) (d + 1)) {A : Type} {K : A → TS → Prop} (k_104 : Int → Int → Mo TS A) (hk_104 : ∀ (l3 : Int) (l5 : Int), R32 l3 → R32 l5 → Sx Γ (fun t => (h, t)) K 104 [(0, vA (mg Γ) 21), (3, vI l3), (5, vI l5)] [] (k_104 l3 l5)) (l1 : Int) (l3 : Int) (l4 : Int) (l5 : Int) (l6 : Int) (hl1 : R32 l1) (hl3 : R32 l3) (hl4 : R32 l4) (hl5 : R32 l5) (hl6 : R32 l6) : Sx Γ (fun t => (h, t)) K 61 [(0, vA (mg Γ) 21), (1, vI l1), (3, vI l3), (4, vI l4), (5, vI l5), (6, vI l6)] [] (t_appliedBit_61 k_104 l1 l3 l4 l5 l6) :=
  s_loop okt_appliedBit_61 (lvt_appliedBit_61 Γ) (fun x hx => st_appliedBit_61b hT o k_104 hk_104 x.1 x.2.1 x.2.2.1 x.2.2.2.1 x.2.2.2.2 hx.1 hx.2.1 hx.2.2.1 hx.2.2.2.1 hx.2.2.2.2) (x := (l1, l3, l4, l5, l6)) ⟨hl1, hl3, hl4, hl5, hl6⟩
noncomputable def t_appliedBit (l1 : Int) : Mo TS Int :=
  bnd (t_child l1 0) fun v1 =>
  bnd (rd 64 7000 v1) fun v2 =>
  if v2 = 12 then
    bnd (rd 65 7000 v1) fun v3 =>
    bnd (rd 82 640 v3) fun v4 =>
    bnd (rd 67 7000 l1) fun v5 =>
    if v4 ≤ (w32 (v5 - 1)) then
      t_appliedBit_61
        (fun v6 v7 => bnd (t_table v6 v7) fun v8 =>
      pr v8) l1 v3 v4 0 0
    else
      pr 1
  else
    bnd (rd 86 7000 v1) fun v9 =>
    pr v9
theorem st_appliedBit (g : gC) (d : Nat) (h : CH) (hT : HT h) (l1 : Int) (hl1 : R32 l1) : SF g yX11_appliedBit (Cond.code yX11_appliedBit cX11_appliedBit 7 (Option.some Jvm.ClassFile.FieldType.boolean)) (Option.some Jvm.ClassFile.FieldType.boolean) (d + 1) [vA g 21, vI l1] (fun t => (h, t)) (t_appliedBit l1) := by
  refine SF.of (lv := [(0, vA g 21), (1, vI l1)]) (by decide) (wt_A (wt_I wt_0)) rfl (by simp only [la_A, la_I, la_J, la_0]) (fun Γ hg hnm o => ?_)
  subst hg
  have o : Ok Γ "LazyForgeModel" cX11_appliedBit 7 (Option.some Jvm.ClassFile.FieldType.boolean) (d + 1) := o
  unfold t_appliedBit
  refine s_aload_n o dX11_appliedBit_0 rfl 0 rfl ?_
  refine s_iload_n o dX11_appliedBit_1 rfl 1 rfl ?_
  refine s_iconst o dX11_appliedBit_2 ?_
  refine s_cv (d := d + 0) (C := "LazyForgeModel") (As := [vI l1, vI 0]) (st := []) o (st_child (mg Γ) d h hT l1 0 hl1 (r32 rfl)) mw_X11_child rfl (Or.inl (lw_all_tbl q3189)) (lw_all_tbl qs115) (lw_all_tbl q3191) (fun t => rc_t o hT t) wt_0 rfl dX11_appliedBit_3 rfl (rs := fun r => [vI r]) (fun _ => rfl) (fun v1 hv1 => ?_)
  refine r_istore_n o dX11_appliedBit_6 rfl rfl ⟨(Nat.ne_of_beq_eq_false rfl), (fun _ => (vA_cat (mg Γ) 21)), ⟨(Nat.ne_of_beq_eq_false rfl), (fun _ => rfl), trivial⟩⟩ ?_
  refine s_aload_n o dX11_appliedBit_7 rfl 1 rfl ?_
  refine s_tga (x := 58) o hT tf_liftKinds ta_liftKinds (lw_all_tbl q2568) dX11_appliedBit_8 ?_
  refine s_iload_n o dX11_appliedBit_11 rfl 0 rfl ?_
  refine r_tiald o hT tr_liftKinds (hv1 _ rfl) dX11_appliedBit_12 (fun v2 hv2 => ?_)
  refine s_bipush o dX11_appliedBit_13 rfl ?_
  refine s_icmp_eq (tgt := 25) o dX11_appliedBit_15 (by decide) hv2 (r32 rfl) ?_ ?_
  · refine s_aload_n o dX11_appliedBit_25 rfl 1 rfl ?_
    refine s_tga (x := 59) o hT tf_liftValues ta_liftValues (lw_all_tbl q2569) dX11_appliedBit_26 ?_
    refine s_iload_n o dX11_appliedBit_29 rfl 0 rfl ?_
    refine r_tiald o hT tr_liftValues (hv1 _ rfl) dX11_appliedBit_30 (fun v3 hv3 => ?_)
    refine r_istore_n o dX11_appliedBit_31 rfl rfl ⟨(Nat.ne_of_beq_eq_false rfl), (fun _ => rfl), ⟨(Nat.ne_of_beq_eq_false rfl), (fun _ => (vA_cat (mg Γ) 21)), ⟨(Nat.ne_of_beq_eq_false rfl), (fun _ => rfl), trivial⟩⟩⟩ ?_
    refine s_aload_n o dX11_appliedBit_32 rfl 2 rfl ?_
    refine s_tga (x := 75) o hT tf_parameterCounts ta_parameterCounts (lw_all_tbl q2586) dX11_appliedBit_33 ?_
    refine s_iload_n o dX11_appliedBit_36 rfl 0 rfl ?_
    refine r_tiald o hT tr_parameterCounts hv3 dX11_appliedBit_37 (fun v4 hv4 => ?_)
    refine r_istore o dX11_appliedBit_38 rfl ⟨(Nat.ne_of_beq_eq_false rfl), (fun _ => rfl), ⟨(Nat.ne_of_beq_eq_false rfl), (fun _ => rfl), ⟨(Nat.ne_of_beq_eq_false rfl), (fun _ => (vA_cat (mg Γ) 21)), ⟨(Nat.ne_of_beq_eq_false rfl), (fun _ => rfl), trivial⟩⟩⟩⟩ ?_
    refine s_aload_n o dX11_appliedBit_40 rfl 3 rfl ?_
    refine s_tga (x := 61) o hT tf_liftCounts ta_liftCounts (lw_all_tbl q2571) dX11_appliedBit_41 ?_
    refine s_iload_n o dX11_appliedBit_44 rfl 4 rfl ?_
    refine r_tiald o hT tr_liftCounts hl1 dX11_appliedBit_45 (fun v5 hv5 => ?_)
    refine s_iconst o dX11_appliedBit_46 ?_
    refine s_isub o dX11_appliedBit_47 ?_
    refine s_iload o dX11_appliedBit_48 0 rfl ?_
    refine s_icmp_ge (tgt := 55) o dX11_appliedBit_50 (by decide) (w32_R _) hv4 ?_ ?_
    · refine s_iconst o dX11_appliedBit_55 ?_
      refine r_istore o dX11_appliedBit_56 rfl ⟨(Nat.ne_of_beq_eq_false rfl), (fun _ => rfl), ⟨(Nat.ne_of_beq_eq_false rfl), (fun _ => rfl), ⟨(Nat.ne_of_beq_eq_false rfl), (fun _ => rfl), ⟨(Nat.ne_of_beq_eq_false rfl), (fun _ => (vA_cat (mg Γ) 21)), ⟨(Nat.ne_of_beq_eq_false rfl), (fun _ => rfl), trivial⟩⟩⟩⟩⟩ ?_
      refine s_iconst o dX11_appliedBit_58 ?_
      refine r_istore o dX11_appliedBit_59 rfl ⟨(Nat.ne_of_beq_eq_false rfl), (fun _ => rfl), ⟨(Nat.ne_of_beq_eq_false rfl), (fun _ => rfl), ⟨(Nat.ne_of_beq_eq_false rfl), (fun _ => rfl), ⟨(Nat.ne_of_beq_eq_false rfl), (fun _ => rfl), ⟨(Nat.ne_of_beq_eq_false rfl), (fun _ => (vA_cat (mg Γ) 21)), ⟨(Nat.ne_of_beq_eq_false rfl), (fun _ => rfl), trivial⟩⟩⟩⟩⟩⟩ ?_
      refine r_to [(0, vA (mg Γ) 21), (1, vI l1), (3, vI v3), (4, vI v4), (5, vI 0), (6, vI 0)] [5, 6, 3, 2, 1, 0] rfl ?_
      refine st_appliedBit_61 hT o _ ?_ l1 v3 v4 0 0 hl1 hv3 hv4 (r32 rfl) (r32 rfl)
      · intro v6 v7 hv6 hv7
        refine s_aload_n o dX11_appliedBit_104 rfl 0 rfl ?_
        refine s_iload_n o dX11_appliedBit_105 rfl 1 rfl ?_
        refine s_iload o dX11_appliedBit_106 2 rfl ?_
        refine s_cv (d := d + 0) (C := "LazyForgeModel") (As := [vI v6, vI v7]) (st := []) o (st_table (mg Γ) d h hT v6 v7 hv6 hv7) mw_X11_table rfl (Or.inl (lw_all_tbl q3209)) (lw_all_tbl qs120) (lw_all_tbl q3211) (fun t => rc_t o hT t) wt_0 rfl dX11_appliedBit_108 rfl (rs := fun r => [vI r]) (fun _ => rfl) (fun v8 hv8 => ?_)
        exact s_iret o rfl i_boolean (hv8 _ rfl) dX11_appliedBit_111 (fun _ hh => hh)
    · refine s_iconst o dX11_appliedBit_53 ?_
      exact s_iret o rfl i_boolean (Or.inr rfl) dX11_appliedBit_54 (fun _ hh => hh)
  · refine s_aload_n o dX11_appliedBit_18 rfl 1 rfl ?_
    refine s_tga (x := 78) o hT tf_bitOf ta_bitOf (lw_all_tbl q2590) dX11_appliedBit_19 ?_
    refine s_iload_n o dX11_appliedBit_22 rfl 0 rfl ?_
    refine r_tzald o hT tr_bitOf (hv1 _ rfl) dX11_appliedBit_23 (fun v9 hv9 => ?_)
    exact s_iret o rfl i_boolean hv9 dX11_appliedBit_24 (fun _ hh => hh)
theorem dX11_firstWithin_0 : decode cX11_firstWithin 0 = .ok (.iload_n 1, 1) := by decide +kernel
theorem dX11_firstWithin_1 : decode cX11_firstWithin 1 = .ok (.istore_n 2, 1) := by decide +kernel
theorem dX11_firstWithin_2 : decode cX11_firstWithin 2 = .ok (.aload_n 0, 1) := by decide +kernel
theorem dX11_firstWithin_3 : decode cX11_firstWithin 3 = .ok (.getfield 128, 3) := by decide +kernel
theorem dX11_firstWithin_6 : decode cX11_firstWithin 6 = .ok (.iload_n 2, 1) := by decide +kernel
theorem dX11_firstWithin_7 : decode cX11_firstWithin 7 = .ok (.iaload, 1) := by decide +kernel
theorem dX11_firstWithin_8 : decode cX11_firstWithin 8 = .ok (.ifCond .le 13, 3) := by decide +kernel
theorem dX11_firstWithin_11 : decode cX11_firstWithin 11 = .ok (.aload_n 0, 1) := by decide +kernel
theorem dX11_firstWithin_12 : decode cX11_firstWithin 12 = .ok (.iload_n 2, 1) := by decide +kernel
theorem dX11_firstWithin_13 : decode cX11_firstWithin 13 = .ok (.iconst 0, 1) := by decide +kernel
theorem dX11_firstWithin_14 : decode cX11_firstWithin 14 = .ok (.invokevirtual 545, 3) := by decide +kernel
theorem dX11_firstWithin_17 : decode cX11_firstWithin 17 = .ok (.istore_n 2, 1) := by decide +kernel
theorem dX11_firstWithin_18 : decode cX11_firstWithin 18 = .ok (.goto (-16), 3) := by decide +kernel
theorem dX11_firstWithin_21 : decode cX11_firstWithin 21 = .ok (.iload_n 2, 1) := by decide +kernel
theorem dX11_firstWithin_22 : decode cX11_firstWithin 22 = .ok (.ireturn, 1) := by decide +kernel
theorem mw_X11_firstWithin : MW yX11_firstWithin (Cond.code yX11_firstWithin cX11_firstWithin 3 (Option.some Jvm.ClassFile.FieldType.int)) cX11_firstWithin 3 (Option.some Jvm.ClassFile.FieldType.int) 1 := ⟨rfl, ⟨(lw_all_tbl q3224), rfl, (lw_all_tbl q173)⟩, rfl, ⟨by decide, by decide⟩, by decide +kernel⟩
abbrev okt_firstWithin_2 (x : Int) : Prop := R32 x
abbrev lvt_firstWithin_2 (Γ : Gm) (x : Int) : List (Nat × Value) := [(0, vA (mg Γ) 21), (2, vI x)]
noncomputable def t_firstWithin_2b {A : Type} (k_21 : Int → Mo TS A) (l2 : Int) : Mo TS ((Int) ⊕ A) :=
  bnd (rd 67 7000 l2) fun v1 =>
  if v1 ≤ 0 then
    lo (k_21 l2)
  else
    bnd (t_child l2 0) fun v2 =>
    pr (.inl v2)
theorem st_firstWithin_2b {Γ : Gm} {h : CH} {d : Nat} (hT : HT h) (o : Ok Γ "LazyForgeModel" cX11_firstWithin 3 (Option.some Jvm.ClassFile.FieldType.int) (d + 1)) {A : Type} {K : A → TS → Prop} (k_21 : Int → Mo TS A) (hk_21 : ∀ (l2 : Int), R32 l2 → Sx Γ (fun t => (h, t)) K 21 [(2, vI l2)] [] (k_21 l2)) (l2 : Int) (hl2 : R32 l2) : Sx Γ (fun t => (h, t)) (KL Γ (fun t => (h, t)) okt_firstWithin_2 K 2 (lvt_firstWithin_2 Γ) []) 2 [(0, vA (mg Γ) 21), (2, vI l2)] [] (t_firstWithin_2b k_21 l2) := by
  unfold t_firstWithin_2b
  refine s_aload_n o dX11_firstWithin_2 rfl 0 rfl ?_
  refine s_tga (x := 61) o hT tf_liftCounts ta_liftCounts (lw_all_tbl q2571) dX11_firstWithin_3 ?_
  refine s_iload_n o dX11_firstWithin_6 rfl 1 rfl ?_
  refine r_tiald o hT tr_liftCounts hl2 dX11_firstWithin_7 (fun v1 hv1 => ?_)
  refine s_if_le (tgt := 21) o dX11_firstWithin_8 (by decide) hv1 ?_ ?_
  · refine r_to [(2, vI l2)] [1] rfl ?_
    exact s_lo (hk_21 l2 hl2)
  · refine s_aload_n o dX11_firstWithin_11 rfl 0 rfl ?_
    refine s_iload_n o dX11_firstWithin_12 rfl 1 rfl ?_
    refine s_iconst o dX11_firstWithin_13 ?_
    refine s_cv (d := d + 0) (C := "LazyForgeModel") (As := [vI l2, vI 0]) (st := []) o (st_child (mg Γ) d h hT l2 0 hl2 (r32 rfl)) mw_X11_child rfl (Or.inl (lw_all_tbl q3189)) (lw_all_tbl qs115) (lw_all_tbl q3191) (fun t => rc_t o hT t) wt_0 rfl dX11_firstWithin_14 rfl (rs := fun r => [vI r]) (fun _ => rfl) (fun v2 hv2 => ?_)
    refine r_istore_nP o dX11_firstWithin_17 rfl rfl [(0, vA (mg Γ) 21)] [0] rfl ⟨(Nat.ne_of_beq_eq_false rfl), (fun _ => (vA_cat (mg Γ) 21)), trivial⟩ ?_
    refine s_goto (tgt := 2) o dX11_firstWithin_18 (by decide) ?_
    refine r_to [(0, vA (mg Γ) 21), (2, vI v2)] [1, 0] rfl ?_
    exact s_back (hv2 _ rfl) rfl
noncomputable def t_firstWithin_2 {A : Type} (k_21 : Int → Mo TS A) (l2 : Int) : Mo TS A := Loop (fun x => t_firstWithin_2b k_21 x) l2
theorem st_firstWithin_2 {Γ : Gm} {h : CH} {d : Nat} (hT : HT h) (o : Ok Γ "LazyForgeModel" cX11_firstWithin 3 (Option.some Jvm.ClassFile.FieldType.int) (d + 1)) {A : Type} {K : A → TS → Prop} (k_21 : Int → Mo TS A) (hk_21 : ∀ (l2 : Int), R32 l2 → Sx Γ (fun t => (h, t)) K 21 [(2, vI l2)] [] (k_21 l2)) (l2 : Int) (hl2 : R32 l2) : Sx Γ (fun t => (h, t)) K 2 [(0, vA (mg Γ) 21), (2, vI l2)] [] (t_firstWithin_2 k_21 l2) :=
  s_loop okt_firstWithin_2 (lvt_firstWithin_2 Γ) (fun x hx => st_firstWithin_2b hT o k_21 hk_21 x hx) (x := l2) hl2
noncomputable def t_firstWithin (l1 : Int) : Mo TS Int :=
  t_firstWithin_2
    (fun v1 => pr v1) l1
theorem st_firstWithin (g : gC) (d : Nat) (h : CH) (hT : HT h) (l1 : Int) (hl1 : R32 l1) : SF g yX11_firstWithin (Cond.code yX11_firstWithin cX11_firstWithin 3 (Option.some Jvm.ClassFile.FieldType.int)) (Option.some Jvm.ClassFile.FieldType.int) (d + 1) [vA g 21, vI l1] (fun t => (h, t)) (t_firstWithin l1) := by
  refine SF.of (lv := [(0, vA g 21), (1, vI l1)]) (by decide) (wt_A (wt_I wt_0)) rfl (by simp only [la_A, la_I, la_J, la_0]) (fun Γ hg hnm o => ?_)
  subst hg
  have o : Ok Γ "LazyForgeModel" cX11_firstWithin 3 (Option.some Jvm.ClassFile.FieldType.int) (d + 1) := o
  unfold t_firstWithin
  refine s_iload_n o dX11_firstWithin_0 rfl 1 rfl ?_
  refine r_istore_n o dX11_firstWithin_1 rfl rfl ⟨(Nat.ne_of_beq_eq_false rfl), (fun _ => (vA_cat (mg Γ) 21)), ⟨(Nat.ne_of_beq_eq_false rfl), (fun _ => rfl), trivial⟩⟩ ?_
  refine r_to [(0, vA (mg Γ) 21), (2, vI l1)] [1, 0] rfl ?_
  refine st_firstWithin_2 hT o _ ?_ l1 hl1
  · intro v1 hv1
    refine s_iload_n o dX11_firstWithin_21 rfl 0 rfl ?_
    exact s_iret o rfl i_int hv1 dX11_firstWithin_22 (fun _ hh => hh)
theorem dX11_isNeeded_0 : decode cX11_isNeeded 0 = .ok (.aload_n 0, 1) := by decide +kernel
theorem dX11_isNeeded_1 : decode cX11_isNeeded 1 = .ok (.getfield 171, 3) := by decide +kernel
theorem dX11_isNeeded_4 : decode cX11_isNeeded 4 = .ok (.iload_n 1, 1) := by decide +kernel
theorem dX11_isNeeded_5 : decode cX11_isNeeded 5 = .ok (.iaload, 1) := by decide +kernel
theorem dX11_isNeeded_6 : decode cX11_isNeeded 6 = .ok (.istore_n 3, 1) := by decide +kernel
theorem dX11_isNeeded_7 : decode cX11_isNeeded 7 = .ok (.aload_n 0, 1) := by decide +kernel
theorem dX11_isNeeded_8 : decode cX11_isNeeded 8 = .ok (.iload_n 1, 1) := by decide +kernel
theorem dX11_isNeeded_9 : decode cX11_isNeeded 9 = .ok (.iconst 1, 1) := by decide +kernel
theorem dX11_isNeeded_10 : decode cX11_isNeeded 10 = .ok (.iload_n 3, 1) := by decide +kernel
theorem dX11_isNeeded_11 : decode cX11_isNeeded 11 = .ok (.ishl, 1) := by decide +kernel
theorem dX11_isNeeded_12 : decode cX11_isNeeded 12 = .ok (.iconst 1, 1) := by decide +kernel
theorem dX11_isNeeded_13 : decode cX11_isNeeded 13 = .ok (.isub, 1) := by decide +kernel
theorem dX11_isNeeded_14 : decode cX11_isNeeded 14 = .ok (.iconst 1, 1) := by decide +kernel
theorem dX11_isNeeded_15 : decode cX11_isNeeded 15 = .ok (.iload_n 2, 1) := by decide +kernel
theorem dX11_isNeeded_16 : decode cX11_isNeeded 16 = .ok (.ishl, 1) := by decide +kernel
theorem dX11_isNeeded_17 : decode cX11_isNeeded 17 = .ok (.iconst (-1), 1) := by decide +kernel
theorem dX11_isNeeded_18 : decode cX11_isNeeded 18 = .ok (.ixor, 1) := by decide +kernel
theorem dX11_isNeeded_19 : decode cX11_isNeeded 19 = .ok (.iand, 1) := by decide +kernel
theorem dX11_isNeeded_20 : decode cX11_isNeeded 20 = .ok (.invokevirtual 554, 3) := by decide +kernel
theorem dX11_isNeeded_23 : decode cX11_isNeeded 23 = .ok (.ifCond .ne 7, 3) := by decide +kernel
theorem dX11_isNeeded_26 : decode cX11_isNeeded 26 = .ok (.iconst 1, 1) := by decide +kernel
theorem dX11_isNeeded_27 : decode cX11_isNeeded 27 = .ok (.goto 4, 3) := by decide +kernel
theorem dX11_isNeeded_30 : decode cX11_isNeeded 30 = .ok (.iconst 0, 1) := by decide +kernel
theorem dX11_isNeeded_31 : decode cX11_isNeeded 31 = .ok (.ireturn, 1) := by decide +kernel
theorem mw_X11_isNeeded : MW yX11_isNeeded (Cond.code yX11_isNeeded cX11_isNeeded 4 (Option.some Jvm.ClassFile.FieldType.boolean)) cX11_isNeeded 4 (Option.some Jvm.ClassFile.FieldType.boolean) 2 := ⟨rfl, ⟨(lw_all_tbl q3228), rfl, (lw_all_tbl q173)⟩, rfl, ⟨by decide, by decide⟩, by decide +kernel⟩
noncomputable def t_isNeeded (l1 : Int) (l2 : Int) : Mo TS Int :=
  bnd (rd 82 640 l1) fun v1 =>
  bnd (t_table l1 (iand (w32 ((ishl 1 v1) - 1)) (ixor (ishl 1 l2) (-1)))) fun v2 =>
  if ¬ v2 = 0 then
    pr 0
  else
    pr 1
theorem st_isNeeded (g : gC) (d : Nat) (h : CH) (hT : HT h) (l1 : Int) (l2 : Int) (hl1 : R32 l1) (hl2 : R32 l2) : SF g yX11_isNeeded (Cond.code yX11_isNeeded cX11_isNeeded 4 (Option.some Jvm.ClassFile.FieldType.boolean)) (Option.some Jvm.ClassFile.FieldType.boolean) (d + 1) [vA g 21, vI l1, vI l2] (fun t => (h, t)) (t_isNeeded l1 l2) := by
  refine SF.of (lv := [(0, vA g 21), (1, vI l1), (2, vI l2)]) (by decide) (wt_A (wt_I (wt_I wt_0))) rfl (by simp only [la_A, la_I, la_J, la_0]) (fun Γ hg hnm o => ?_)
  subst hg
  have o : Ok Γ "LazyForgeModel" cX11_isNeeded 4 (Option.some Jvm.ClassFile.FieldType.boolean) (d + 1) := o
  unfold t_isNeeded
  refine s_aload_n o dX11_isNeeded_0 rfl 0 rfl ?_
  refine s_tga (x := 75) o hT tf_parameterCounts ta_parameterCounts (lw_all_tbl q2586) dX11_isNeeded_1 ?_
  refine s_iload_n o dX11_isNeeded_4 rfl 1 rfl ?_
  refine r_tiald o hT tr_parameterCounts hl1 dX11_isNeeded_5 (fun v1 hv1 => ?_)
  refine r_istore_n o dX11_isNeeded_6 rfl rfl ⟨(Nat.ne_of_beq_eq_false rfl), (fun _ => (vA_cat (mg Γ) 21)), ⟨(Nat.ne_of_beq_eq_false rfl), (fun _ => rfl), ⟨(Nat.ne_of_beq_eq_false rfl), (fun _ => rfl), trivial⟩⟩⟩ ?_
  refine s_aload_n o dX11_isNeeded_7 rfl 1 rfl ?_
  refine s_iload_n o dX11_isNeeded_8 rfl 2 rfl ?_
  refine s_iconst o dX11_isNeeded_9 ?_
  refine s_iload_n o dX11_isNeeded_10 rfl 0 rfl ?_
  refine s_ishl o dX11_isNeeded_11 ?_
  refine s_iconst o dX11_isNeeded_12 ?_
  refine s_isub o dX11_isNeeded_13 ?_
  refine s_iconst o dX11_isNeeded_14 ?_
  refine s_iload_n o dX11_isNeeded_15 rfl 3 rfl ?_
  refine s_ishl o dX11_isNeeded_16 ?_
  refine s_iconst o dX11_isNeeded_17 ?_
  refine s_ixor o dX11_isNeeded_18 ?_
  refine s_iand o dX11_isNeeded_19 ?_
  refine s_cv (d := d + 0) (C := "LazyForgeModel") (As := [vI l1, vI (iand (w32 ((ishl 1 v1) - 1)) (ixor (ishl 1 l2) (-1)))]) (st := []) o (st_table (mg Γ) d h hT l1 (iand (w32 ((ishl 1 v1) - 1)) (ixor (ishl 1 l2) (-1))) hl1 (iand_R _ _)) mw_X11_table rfl (Or.inl (lw_all_tbl q3209)) (lw_all_tbl qs120) (lw_all_tbl q3211) (fun t => rc_t o hT t) wt_0 rfl dX11_isNeeded_20 rfl (rs := fun r => [vI r]) (fun _ => rfl) (fun v2 hv2 => ?_)
  refine s_if_ne (tgt := 30) o dX11_isNeeded_23 (by decide) (rZ (hv2 _ rfl)) ?_ ?_
  · refine s_iconst o dX11_isNeeded_30 ?_
    exact s_iret o rfl i_boolean (Or.inl rfl) dX11_isNeeded_31 (fun _ hh => hh)
  · refine s_iconst o dX11_isNeeded_26 ?_
    refine s_goto (tgt := 31) o dX11_isNeeded_27 (by decide) ?_
    exact s_iret o rfl i_boolean (Or.inr rfl) dX11_isNeeded_31 (fun _ hh => hh)
theorem dX11_newCell_0 : decode cX11_newCell 0 = .ok (.aload_n 0, 1) := by decide +kernel
theorem dX11_newCell_1 : decode cX11_newCell 1 = .ok (.getfield 626, 3) := by decide +kernel
theorem dX11_newCell_4 : decode cX11_newCell 4 = .ok (.iload 4, 2) := by decide +kernel
theorem dX11_newCell_6 : decode cX11_newCell 6 = .ok (.iadd, 1) := by decide +kernel
theorem dX11_newCell_7 : decode cX11_newCell 7 = .ok (.sipush 4000, 3) := by decide +kernel
theorem dX11_newCell_10 : decode cX11_newCell 10 = .ok (.if_icmp .le 11, 3) := by decide +kernel
theorem dX11_newCell_13 : decode cX11_newCell 13 = .ok (.aload_n 0, 1) := by decide +kernel
theorem dX11_newCell_14 : decode cX11_newCell 14 = .ok (.iconst 3, 1) := by decide +kernel
theorem dX11_newCell_15 : decode cX11_newCell 15 = .ok (.iconst 2, 1) := by decide +kernel
theorem dX11_newCell_16 : decode cX11_newCell 16 = .ok (.invokevirtual 629, 3) := by decide +kernel
theorem dX11_newCell_19 : decode cX11_newCell 19 = .ok (.iconst (-1), 1) := by decide +kernel
theorem dX11_newCell_20 : decode cX11_newCell 20 = .ok (.ireturn, 1) := by decide +kernel
theorem dX11_newCell_21 : decode cX11_newCell 21 = .ok (.aload_n 0, 1) := by decide +kernel
theorem dX11_newCell_22 : decode cX11_newCell 22 = .ok (.dup, 1) := by decide +kernel
theorem dX11_newCell_23 : decode cX11_newCell 23 = .ok (.getfield 626, 3) := by decide +kernel
theorem dX11_newCell_26 : decode cX11_newCell 26 = .ok (.iload 4, 2) := by decide +kernel
theorem dX11_newCell_28 : decode cX11_newCell 28 = .ok (.iadd, 1) := by decide +kernel
theorem dX11_newCell_29 : decode cX11_newCell 29 = .ok (.putfield 626, 3) := by decide +kernel
theorem dX11_newCell_32 : decode cX11_newCell 32 = .ok (.aload_n 0, 1) := by decide +kernel
theorem dX11_newCell_33 : decode cX11_newCell 33 = .ok (.dup, 1) := by decide +kernel
theorem dX11_newCell_34 : decode cX11_newCell 34 = .ok (.getfield 632, 3) := by decide +kernel
theorem dX11_newCell_37 : decode cX11_newCell 37 = .ok (.iload 4, 2) := by decide +kernel
theorem dX11_newCell_39 : decode cX11_newCell 39 = .ok (.iadd, 1) := by decide +kernel
theorem dX11_newCell_40 : decode cX11_newCell 40 = .ok (.putfield 632, 3) := by decide +kernel
theorem dX11_newCell_43 : decode cX11_newCell 43 = .ok (.aload_n 0, 1) := by decide +kernel
theorem dX11_newCell_44 : decode cX11_newCell 44 = .ok (.getfield 635, 3) := by decide +kernel
theorem dX11_newCell_47 : decode cX11_newCell 47 = .ok (.istore 5, 2) := by decide +kernel
theorem dX11_newCell_49 : decode cX11_newCell 49 = .ok (.aload_n 0, 1) := by decide +kernel
theorem dX11_newCell_50 : decode cX11_newCell 50 = .ok (.dup, 1) := by decide +kernel
theorem dX11_newCell_51 : decode cX11_newCell 51 = .ok (.getfield 635, 3) := by decide +kernel
theorem dX11_newCell_54 : decode cX11_newCell 54 = .ok (.iconst 1, 1) := by decide +kernel
theorem dX11_newCell_55 : decode cX11_newCell 55 = .ok (.iadd, 1) := by decide +kernel
theorem dX11_newCell_56 : decode cX11_newCell 56 = .ok (.putfield 635, 3) := by decide +kernel
theorem dX11_newCell_59 : decode cX11_newCell 59 = .ok (.aload_n 0, 1) := by decide +kernel
theorem dX11_newCell_60 : decode cX11_newCell 60 = .ok (.getfield 194, 3) := by decide +kernel
theorem dX11_newCell_63 : decode cX11_newCell 63 = .ok (.iload 5, 2) := by decide +kernel
theorem dX11_newCell_65 : decode cX11_newCell 65 = .ok (.iload_n 1, 1) := by decide +kernel
theorem dX11_newCell_66 : decode cX11_newCell 66 = .ok (.iastore, 1) := by decide +kernel
theorem dX11_newCell_67 : decode cX11_newCell 67 = .ok (.aload_n 0, 1) := by decide +kernel
theorem dX11_newCell_68 : decode cX11_newCell 68 = .ok (.getfield 197, 3) := by decide +kernel
theorem dX11_newCell_71 : decode cX11_newCell 71 = .ok (.iload 5, 2) := by decide +kernel
theorem dX11_newCell_73 : decode cX11_newCell 73 = .ok (.iload_n 2, 1) := by decide +kernel
theorem dX11_newCell_74 : decode cX11_newCell 74 = .ok (.iastore, 1) := by decide +kernel
theorem dX11_newCell_75 : decode cX11_newCell 75 = .ok (.aload_n 0, 1) := by decide +kernel
theorem dX11_newCell_76 : decode cX11_newCell 76 = .ok (.getfield 203, 3) := by decide +kernel
theorem dX11_newCell_79 : decode cX11_newCell 79 = .ok (.iload 5, 2) := by decide +kernel
theorem dX11_newCell_81 : decode cX11_newCell 81 = .ok (.aload_n 0, 1) := by decide +kernel
theorem dX11_newCell_82 : decode cX11_newCell 82 = .ok (.getfield 638, 3) := by decide +kernel
theorem dX11_newCell_85 : decode cX11_newCell 85 = .ok (.iastore, 1) := by decide +kernel
theorem dX11_newCell_86 : decode cX11_newCell 86 = .ok (.aload_n 0, 1) := by decide +kernel
theorem dX11_newCell_87 : decode cX11_newCell 87 = .ok (.getfield 206, 3) := by decide +kernel
theorem dX11_newCell_90 : decode cX11_newCell 90 = .ok (.iload 5, 2) := by decide +kernel
theorem dX11_newCell_92 : decode cX11_newCell 92 = .ok (.iload_n 3, 1) := by decide +kernel
theorem dX11_newCell_93 : decode cX11_newCell 93 = .ok (.iastore, 1) := by decide +kernel
theorem dX11_newCell_94 : decode cX11_newCell 94 = .ok (.aload_n 0, 1) := by decide +kernel
theorem dX11_newCell_95 : decode cX11_newCell 95 = .ok (.dup, 1) := by decide +kernel
theorem dX11_newCell_96 : decode cX11_newCell 96 = .ok (.getfield 638, 3) := by decide +kernel
theorem dX11_newCell_99 : decode cX11_newCell 99 = .ok (.iload_n 3, 1) := by decide +kernel
theorem dX11_newCell_100 : decode cX11_newCell 100 = .ok (.iadd, 1) := by decide +kernel
theorem dX11_newCell_101 : decode cX11_newCell 101 = .ok (.putfield 638, 3) := by decide +kernel
theorem dX11_newCell_104 : decode cX11_newCell 104 = .ok (.aload_n 0, 1) := by decide +kernel
theorem dX11_newCell_105 : decode cX11_newCell 105 = .ok (.dup, 1) := by decide +kernel
theorem dX11_newCell_106 : decode cX11_newCell 106 = .ok (.getfield 641, 3) := by decide +kernel
theorem dX11_newCell_109 : decode cX11_newCell 109 = .ok (.iload_n 1, 1) := by decide +kernel
theorem dX11_newCell_110 : decode cX11_newCell 110 = .ok (.iconst 2, 1) := by decide +kernel
theorem dX11_newCell_111 : decode cX11_newCell 111 = .ok (.if_icmp .ne 7, 3) := by decide +kernel
theorem dX11_newCell_114 : decode cX11_newCell 114 = .ok (.iconst 1, 1) := by decide +kernel
theorem dX11_newCell_115 : decode cX11_newCell 115 = .ok (.goto 4, 3) := by decide +kernel
theorem dX11_newCell_118 : decode cX11_newCell 118 = .ok (.iconst 0, 1) := by decide +kernel
theorem dX11_newCell_119 : decode cX11_newCell 119 = .ok (.iadd, 1) := by decide +kernel
theorem dX11_newCell_120 : decode cX11_newCell 120 = .ok (.putfield 641, 3) := by decide +kernel
theorem dX11_newCell_123 : decode cX11_newCell 123 = .ok (.aload_n 0, 1) := by decide +kernel
theorem dX11_newCell_124 : decode cX11_newCell 124 = .ok (.dup, 1) := by decide +kernel
theorem dX11_newCell_125 : decode cX11_newCell 125 = .ok (.getfield 644, 3) := by decide +kernel
theorem dX11_newCell_128 : decode cX11_newCell 128 = .ok (.iload_n 1, 1) := by decide +kernel
theorem dX11_newCell_129 : decode cX11_newCell 129 = .ok (.iconst 1, 1) := by decide +kernel
theorem dX11_newCell_130 : decode cX11_newCell 130 = .ok (.if_icmp .ne 7, 3) := by decide +kernel
theorem dX11_newCell_133 : decode cX11_newCell 133 = .ok (.iconst 1, 1) := by decide +kernel
theorem dX11_newCell_134 : decode cX11_newCell 134 = .ok (.goto 4, 3) := by decide +kernel
theorem dX11_newCell_137 : decode cX11_newCell 137 = .ok (.iconst 0, 1) := by decide +kernel
theorem dX11_newCell_138 : decode cX11_newCell 138 = .ok (.iadd, 1) := by decide +kernel
theorem dX11_newCell_139 : decode cX11_newCell 139 = .ok (.putfield 644, 3) := by decide +kernel
theorem dX11_newCell_142 : decode cX11_newCell 142 = .ok (.aload_n 0, 1) := by decide +kernel
theorem dX11_newCell_143 : decode cX11_newCell 143 = .ok (.dup, 1) := by decide +kernel
theorem dX11_newCell_144 : decode cX11_newCell 144 = .ok (.getfield 647, 3) := by decide +kernel
theorem dX11_newCell_147 : decode cX11_newCell 147 = .ok (.iload_n 1, 1) := by decide +kernel
theorem dX11_newCell_148 : decode cX11_newCell 148 = .ok (.ifCond .ne 7, 3) := by decide +kernel
theorem dX11_newCell_151 : decode cX11_newCell 151 = .ok (.iconst 1, 1) := by decide +kernel
theorem dX11_newCell_152 : decode cX11_newCell 152 = .ok (.goto 4, 3) := by decide +kernel
theorem dX11_newCell_155 : decode cX11_newCell 155 = .ok (.iconst 0, 1) := by decide +kernel
theorem dX11_newCell_156 : decode cX11_newCell 156 = .ok (.iadd, 1) := by decide +kernel
theorem dX11_newCell_157 : decode cX11_newCell 157 = .ok (.putfield 647, 3) := by decide +kernel
theorem dX11_newCell_160 : decode cX11_newCell 160 = .ok (.iload 5, 2) := by decide +kernel
theorem dX11_newCell_162 : decode cX11_newCell 162 = .ok (.ireturn, 1) := by decide +kernel
theorem mw_X11_newCell : MW yX11_newCell (Cond.code yX11_newCell cX11_newCell 6 (Option.some Jvm.ClassFile.FieldType.int)) cX11_newCell 6 (Option.some Jvm.ClassFile.FieldType.int) 4 := ⟨rfl, ⟨(lw_all_tbl q3237), rfl, (lw_all_tbl q173)⟩, rfl, ⟨by decide, by decide⟩, by decide +kernel⟩
noncomputable def t_newCell_156  (l5 : Int) (k0 : Int) (k1 : Int) : Mo TS Int :=
  bnd (ss 107 (w32 (k1 + k0))) fun _ =>
  pr l5
theorem st_newCell_156 {Γ : Gm} {h : CH} {d : Nat} (hT : HT h) (o : Ok Γ "LazyForgeModel" cX11_newCell 6 (Option.some Jvm.ClassFile.FieldType.int) (d + 1))   (l5 : Int) (k0 : Int) (k1 : Int) (hl5 : R32 l5) (hk0 : rg .boolean k0) (hk1 : R32 k1) : Sx Γ (fun t => (h, t)) (fun a s => mt Γ = (0, a, ((h, s) : Wd))) 156 [(5, vI l5)] [vI k0, vI k1, vA (mg Γ) 21] (t_newCell_156 l5 k0 k1) := by
  unfold t_newCell_156
  refine s_iadd o dX11_newCell_156 ?_
  refine r_tpf vI rfl o hT tf_objects tj_objects (lw_all_tbl q2611) dX11_newCell_157 (w32_R _) ty_int ?_
  refine s_iload o dX11_newCell_160 0 rfl ?_
  exact s_iret o rfl i_int hl5 dX11_newCell_162 (fun _ hh => hh)
noncomputable def t_newCell_138  (l1 : Int) (l5 : Int) (k0 : Int) (k1 : Int) : Mo TS Int :=
  bnd (ss 106 (w32 (k1 + k0))) fun _ =>
  bnd (gs 107) fun v1 =>
  if ¬ l1 = 0 then
    t_newCell_156 l5 0 v1
  else
    t_newCell_156 l5 1 v1
theorem st_newCell_138 {Γ : Gm} {h : CH} {d : Nat} (hT : HT h) (o : Ok Γ "LazyForgeModel" cX11_newCell 6 (Option.some Jvm.ClassFile.FieldType.int) (d + 1))   (l1 : Int) (l5 : Int) (k0 : Int) (k1 : Int) (hl1 : R32 l1) (hl5 : R32 l5) (hk0 : rg .boolean k0) (hk1 : R32 k1) : Sx Γ (fun t => (h, t)) (fun a s => mt Γ = (0, a, ((h, s) : Wd))) 138 [(0, vA (mg Γ) 21), (1, vI l1), (5, vI l5)] [vI k0, vI k1, vA (mg Γ) 21] (t_newCell_138 l1 l5 k0 k1) := by
  unfold t_newCell_138
  refine s_iadd o dX11_newCell_138 ?_
  refine r_tpf vI rfl o hT tf_partials tj_partials (lw_all_tbl q2610) dX11_newCell_139 (w32_R _) ty_int ?_
  refine s_aload_n o dX11_newCell_142 rfl 0 rfl ?_
  refine s_dup o dX11_newCell_143 (vA_cat (mg Γ) 21) ?_
  refine r_tgf vI rfl o hT tf_objects tj_objects (lw_all_tbl q2611) dX11_newCell_144 (fun v1 hv1 => ?_)
  refine s_iload_n o dX11_newCell_147 rfl 1 rfl ?_
  refine s_if_ne (tgt := 155) o dX11_newCell_148 (by decide) hl1 ?_ ?_
  · refine s_iconst o dX11_newCell_155 ?_
    refine r_to [(5, vI l5)] [2] rfl ?_
    exact st_newCell_156 hT o l5 0 v1 hl5 (Or.inl rfl) hv1
  · refine s_iconst o dX11_newCell_151 ?_
    refine s_goto (tgt := 156) o dX11_newCell_152 (by decide) ?_
    refine r_to [(5, vI l5)] [2] rfl ?_
    exact st_newCell_156 hT o l5 1 v1 hl5 (Or.inr rfl) hv1
noncomputable def t_newCell_119  (l1 : Int) (l5 : Int) (k0 : Int) (k1 : Int) : Mo TS Int :=
  bnd (ss 105 (w32 (k1 + k0))) fun _ =>
  bnd (gs 106) fun v1 =>
  if ¬ l1 = 1 then
    t_newCell_138 l1 l5 0 v1
  else
    t_newCell_138 l1 l5 1 v1
theorem st_newCell_119 {Γ : Gm} {h : CH} {d : Nat} (hT : HT h) (o : Ok Γ "LazyForgeModel" cX11_newCell 6 (Option.some Jvm.ClassFile.FieldType.int) (d + 1))   (l1 : Int) (l5 : Int) (k0 : Int) (k1 : Int) (hl1 : R32 l1) (hl5 : R32 l5) (hk0 : rg .boolean k0) (hk1 : R32 k1) : Sx Γ (fun t => (h, t)) (fun a s => mt Γ = (0, a, ((h, s) : Wd))) 119 [(0, vA (mg Γ) 21), (1, vI l1), (5, vI l5)] [vI k0, vI k1, vA (mg Γ) 21] (t_newCell_119 l1 l5 k0 k1) := by
  unfold t_newCell_119
  refine s_iadd o dX11_newCell_119 ?_
  refine r_tpf vI rfl o hT tf_suspensions tj_suspensions (lw_all_tbl q2609) dX11_newCell_120 (w32_R _) ty_int ?_
  refine s_aload_n o dX11_newCell_123 rfl 0 rfl ?_
  refine s_dup o dX11_newCell_124 (vA_cat (mg Γ) 21) ?_
  refine r_tgf vI rfl o hT tf_partials tj_partials (lw_all_tbl q2610) dX11_newCell_125 (fun v1 hv1 => ?_)
  refine s_iload_n o dX11_newCell_128 rfl 1 rfl ?_
  refine s_iconst o dX11_newCell_129 ?_
  refine s_icmp_ne (tgt := 137) o dX11_newCell_130 (by decide) hl1 (r32 rfl) ?_ ?_
  · refine s_iconst o dX11_newCell_137 ?_
    exact st_newCell_138 hT o l1 l5 0 v1 hl1 hl5 (Or.inl rfl) hv1
  · refine s_iconst o dX11_newCell_133 ?_
    refine s_goto (tgt := 138) o dX11_newCell_134 (by decide) ?_
    exact st_newCell_138 hT o l1 l5 1 v1 hl1 hl5 (Or.inr rfl) hv1
noncomputable def t_newCell (l1 : Int) (l2 : Int) (l3 : Int) (l4 : Int) : Mo TS Int :=
  bnd (gs 100) fun v1 =>
  if (w32 (v1 + l4)) ≤ 4000 then
    bnd (gs 100) fun v2 =>
    bnd (ss 100 (w32 (v2 + l4))) fun _ =>
    bnd (gs 101) fun v3 =>
    bnd (ss 101 (w32 (v3 + l4))) fun _ =>
    bnd (gs 97) fun v4 =>
    bnd (gs 97) fun v5 =>
    bnd (ss 97 (w32 (v5 + 1))) fun _ =>
    bnd (wr 92 4100 v4 l1) fun _ =>
    bnd (wr 93 4100 v4 l2) fun _ =>
    bnd (gs 98) fun v6 =>
    bnd (wr 95 4100 v4 v6) fun _ =>
    bnd (wr 96 4100 v4 l3) fun _ =>
    bnd (gs 98) fun v7 =>
    bnd (ss 98 (w32 (v7 + l3))) fun _ =>
    bnd (gs 105) fun v8 =>
    if ¬ l1 = 2 then
      t_newCell_119 l1 v4 0 v8
    else
      t_newCell_119 l1 v4 1 v8
  else
    bnd (t_ends 3 2) fun _ =>
    pr (-1)
theorem st_newCell (g : gC) (d : Nat) (h : CH) (hT : HT h) (l1 : Int) (l2 : Int) (l3 : Int) (l4 : Int) (hl1 : R32 l1) (hl2 : R32 l2) (hl3 : R32 l3) (hl4 : R32 l4) : SF g yX11_newCell (Cond.code yX11_newCell cX11_newCell 6 (Option.some Jvm.ClassFile.FieldType.int)) (Option.some Jvm.ClassFile.FieldType.int) (d + 1) [vA g 21, vI l1, vI l2, vI l3, vI l4] (fun t => (h, t)) (t_newCell l1 l2 l3 l4) := by
  refine SF.of (lv := [(0, vA g 21), (1, vI l1), (2, vI l2), (3, vI l3), (4, vI l4)]) (by decide) (wt_A (wt_I (wt_I (wt_I (wt_I wt_0))))) rfl (by simp only [la_A, la_I, la_J, la_0]) (fun Γ hg hnm o => ?_)
  subst hg
  have o : Ok Γ "LazyForgeModel" cX11_newCell 6 (Option.some Jvm.ClassFile.FieldType.int) (d + 1) := o
  unfold t_newCell
  refine s_aload_n o dX11_newCell_0 rfl 0 rfl ?_
  refine r_tgf vI rfl o hT tf_cells tj_cells (lw_all_tbl q2604) dX11_newCell_1 (fun v1 hv1 => ?_)
  refine s_iload o dX11_newCell_4 4 rfl ?_
  refine s_iadd o dX11_newCell_6 ?_
  refine s_sipush o dX11_newCell_7 rfl ?_
  refine s_icmp_le (tgt := 21) o dX11_newCell_10 (by decide) (w32_R _) (r32 rfl) ?_ ?_
  · refine s_aload_n o dX11_newCell_21 rfl 0 rfl ?_
    refine s_dup o dX11_newCell_22 (vA_cat (mg Γ) 21) ?_
    refine r_tgf vI rfl o hT tf_cells tj_cells (lw_all_tbl q2604) dX11_newCell_23 (fun v2 hv2 => ?_)
    refine s_iload o dX11_newCell_26 4 rfl ?_
    refine s_iadd o dX11_newCell_28 ?_
    refine r_tpf vI rfl o hT tf_cells tj_cells (lw_all_tbl q2604) dX11_newCell_29 (w32_R _) ty_int ?_
    refine s_aload_n o dX11_newCell_32 rfl 0 rfl ?_
    refine s_dup o dX11_newCell_33 (vA_cat (mg Γ) 21) ?_
    refine r_tgf vI rfl o hT tf_allCells tj_allCells (lw_all_tbl q2605) dX11_newCell_34 (fun v3 hv3 => ?_)
    refine s_iload o dX11_newCell_37 4 rfl ?_
    refine s_iadd o dX11_newCell_39 ?_
    refine r_tpf vI rfl o hT tf_allCells tj_allCells (lw_all_tbl q2605) dX11_newCell_40 (w32_R _) ty_int ?_
    refine s_aload_n o dX11_newCell_43 rfl 0 rfl ?_
    refine r_tgf vI rfl o hT tf_cellsMade tj_cellsMade (lw_all_tbl q2601) dX11_newCell_44 (fun v4 hv4 => ?_)
    refine r_istore o dX11_newCell_47 rfl ⟨(Nat.ne_of_beq_eq_false rfl), (fun _ => (vA_cat (mg Γ) 21)), ⟨(Nat.ne_of_beq_eq_false rfl), (fun _ => rfl), ⟨(Nat.ne_of_beq_eq_false rfl), (fun _ => rfl), ⟨(Nat.ne_of_beq_eq_false rfl), (fun _ => rfl), ⟨(Nat.ne_of_beq_eq_false rfl), (fun _ => rfl), trivial⟩⟩⟩⟩⟩ ?_
    refine s_aload_n o dX11_newCell_49 rfl 1 rfl ?_
    refine s_dup o dX11_newCell_50 (vA_cat (mg Γ) 21) ?_
    refine r_tgf vI rfl o hT tf_cellsMade tj_cellsMade (lw_all_tbl q2601) dX11_newCell_51 (fun v5 hv5 => ?_)
    refine s_iconst o dX11_newCell_54 ?_
    refine s_iadd o dX11_newCell_55 ?_
    refine r_tpf vI rfl o hT tf_cellsMade tj_cellsMade (lw_all_tbl q2601) dX11_newCell_56 (w32_R _) ty_int ?_
    refine s_aload_n o dX11_newCell_59 rfl 1 rfl ?_
    refine s_tga (x := 81) o hT tf_cellSorts ta_cellSorts (lw_all_tbl q2596) dX11_newCell_60 ?_
    refine s_iload o dX11_newCell_63 0 rfl ?_
    refine s_iload_n o dX11_newCell_65 rfl 2 rfl ?_
    refine r_tiast o hT tr_cellSorts hv4 hl1 dX11_newCell_66 ?_
    refine s_aload_n o dX11_newCell_67 rfl 1 rfl ?_
    refine s_tga (x := 82) o hT tf_cellValues ta_cellValues (lw_all_tbl q2597) dX11_newCell_68 ?_
    refine s_iload o dX11_newCell_71 0 rfl ?_
    refine s_iload_n o dX11_newCell_73 rfl 3 rfl ?_
    refine r_tiast o hT tr_cellValues hv4 hl2 dX11_newCell_74 ?_
    refine s_aload_n o dX11_newCell_75 rfl 1 rfl ?_
    refine s_tga (x := 84) o hT tf_cellBegins ta_cellBegins (lw_all_tbl q2599) dX11_newCell_76 ?_
    refine s_iload o dX11_newCell_79 0 rfl ?_
    refine s_aload_n o dX11_newCell_81 rfl 1 rfl ?_
    refine r_tgf vI rfl o hT tf_fieldTop tj_fieldTop (lw_all_tbl q2602) dX11_newCell_82 (fun v6 hv6 => ?_)
    refine r_tiast o hT tr_cellBegins hv4 hv6 dX11_newCell_85 ?_
    refine s_aload_n o dX11_newCell_86 rfl 1 rfl ?_
    refine s_tga (x := 85) o hT tf_cellCounts ta_cellCounts (lw_all_tbl q2600) dX11_newCell_87 ?_
    refine s_iload o dX11_newCell_90 0 rfl ?_
    refine s_iload_n o dX11_newCell_92 rfl 4 rfl ?_
    refine r_tiast o hT tr_cellCounts hv4 hl3 dX11_newCell_93 ?_
    refine s_aload_n o dX11_newCell_94 rfl 1 rfl ?_
    refine s_dup o dX11_newCell_95 (vA_cat (mg Γ) 21) ?_
    refine r_tgf vI rfl o hT tf_fieldTop tj_fieldTop (lw_all_tbl q2602) dX11_newCell_96 (fun v7 hv7 => ?_)
    refine s_iload_n o dX11_newCell_99 rfl 4 rfl ?_
    refine s_iadd o dX11_newCell_100 ?_
    refine r_tpf vI rfl o hT tf_fieldTop tj_fieldTop (lw_all_tbl q2602) dX11_newCell_101 (w32_R _) ty_int ?_
    refine s_aload_n o dX11_newCell_104 rfl 1 rfl ?_
    refine s_dup o dX11_newCell_105 (vA_cat (mg Γ) 21) ?_
    refine r_tgf vI rfl o hT tf_suspensions tj_suspensions (lw_all_tbl q2609) dX11_newCell_106 (fun v8 hv8 => ?_)
    refine s_iload_n o dX11_newCell_109 rfl 2 rfl ?_
    refine s_iconst o dX11_newCell_110 ?_
    refine s_icmp_ne (tgt := 118) o dX11_newCell_111 (by decide) hl1 (r32 rfl) ?_ ?_
    · refine s_iconst o dX11_newCell_118 ?_
      refine r_to [(0, vA (mg Γ) 21), (1, vI l1), (5, vI v4)] [1, 2, 0] rfl ?_
      exact st_newCell_119 hT o l1 v4 0 v8 hl1 hv4 (Or.inl rfl) hv8
    · refine s_iconst o dX11_newCell_114 ?_
      refine s_goto (tgt := 119) o dX11_newCell_115 (by decide) ?_
      refine r_to [(0, vA (mg Γ) 21), (1, vI l1), (5, vI v4)] [1, 2, 0] rfl ?_
      exact st_newCell_119 hT o l1 v4 1 v8 hl1 hv4 (Or.inr rfl) hv8
  · refine s_aload_n o dX11_newCell_13 rfl 0 rfl ?_
    refine s_iconst o dX11_newCell_14 ?_
    refine s_iconst o dX11_newCell_15 ?_
    refine s_cv (d := d + 0) (C := "LazyForgeModel") (As := [vI 3, vI 2]) (st := []) o (st_ends (mg Γ) d h hT 3 2 (r32 rfl) (r32 rfl)) mw_X11_ends rfl (Or.inl (lw_all_tbl q3238)) (lw_all_tbl qs126) (lw_all_tbl q3240) (fun t => rc_t o hT t) wt_0 rfl dX11_newCell_16 rfl (rs := fun _ => []) (fun _ => rfl) (fun _ _ => ?_)
    refine s_iconst o dX11_newCell_19 ?_
    exact s_iret o rfl i_int (r32 rfl) dX11_newCell_20 (fun _ hh => hh)
theorem dX11_frame_0 : decode cX11_frame 0 = .ok (.aload_n 0, 1) := by decide +kernel
theorem dX11_frame_1 : decode cX11_frame 1 = .ok (.iconst 1, 1) := by decide +kernel
theorem dX11_frame_2 : decode cX11_frame 2 = .ok (.iconst 0, 1) := by decide +kernel
theorem dX11_frame_3 : decode cX11_frame 3 = .ok (.aload_n 0, 1) := by decide +kernel
theorem dX11_frame_4 : decode cX11_frame 4 = .ok (.getfield 682, 3) := by decide +kernel
theorem dX11_frame_7 : decode cX11_frame 7 = .ok (.invokevirtual 685, 3) := by decide +kernel
theorem dX11_frame_10 : decode cX11_frame 10 = .ok (.aload_n 0, 1) := by decide +kernel
theorem dX11_frame_11 : decode cX11_frame 11 = .ok (.aload_n 0, 1) := by decide +kernel
theorem dX11_frame_12 : decode cX11_frame 12 = .ok (.getfield 682, 3) := by decide +kernel
theorem dX11_frame_15 : decode cX11_frame 15 = .ok (.putfield 614, 3) := by decide +kernel
theorem dX11_frame_18 : decode cX11_frame 18 = .ok (.aload_n 0, 1) := by decide +kernel
theorem dX11_frame_19 : decode cX11_frame 19 = .ok (.dup, 1) := by decide +kernel
theorem dX11_frame_20 : decode cX11_frame 20 = .ok (.getfield 682, 3) := by decide +kernel
theorem dX11_frame_23 : decode cX11_frame 23 = .ok (.aload_n 0, 1) := by decide +kernel
theorem dX11_frame_24 : decode cX11_frame 24 = .ok (.getfield 168, 3) := by decide +kernel
theorem dX11_frame_27 : decode cX11_frame 27 = .ok (.iload_n 1, 1) := by decide +kernel
theorem dX11_frame_28 : decode cX11_frame 28 = .ok (.iaload, 1) := by decide +kernel
theorem dX11_frame_29 : decode cX11_frame 29 = .ok (.iadd, 1) := by decide +kernel
theorem dX11_frame_30 : decode cX11_frame 30 = .ok (.putfield 682, 3) := by decide +kernel
theorem dX11_frame_33 : decode cX11_frame 33 = .ok (.return_, 1) := by decide +kernel
theorem mw_X11_frame : MW yX11_frame (Cond.code yX11_frame cX11_frame 2 (Option.none : Option Jvm.ClassFile.FieldType)) cX11_frame 2 (Option.none : Option Jvm.ClassFile.FieldType) 1 := ⟨rfl, ⟨(lw_all_tbl q3271), rfl, (lw_all_tbl q173)⟩, rfl, ⟨by decide, by decide⟩, by decide +kernel⟩
noncomputable def t_frame (l1 : Int) : Mo TS Int :=
  bnd (gs 123) fun v1 =>
  bnd (t_waits 1 0 v1) fun _ =>
  bnd (gs 123) fun v2 =>
  bnd (ss 122 v2) fun _ =>
  bnd (gs 123) fun v3 =>
  bnd (rd 81 640 l1) fun v4 =>
  bnd (ss 123 (w32 (v3 + v4))) fun _ =>
  pr 0
theorem st_frame (g : gC) (d : Nat) (h : CH) (hT : HT h) (l1 : Int) (hl1 : R32 l1) : SF g yX11_frame (Cond.code yX11_frame cX11_frame 2 (Option.none : Option Jvm.ClassFile.FieldType)) (Option.none : Option Jvm.ClassFile.FieldType) (d + 1) [vA g 21, vI l1] (fun t => (h, t)) (t_frame l1) := by
  refine SF.of (lv := [(0, vA g 21), (1, vI l1)]) (by decide) (wt_A (wt_I wt_0)) rfl (by simp only [la_A, la_I, la_J, la_0]) (fun Γ hg hnm o => ?_)
  subst hg
  have o : Ok Γ "LazyForgeModel" cX11_frame 2 (Option.none : Option Jvm.ClassFile.FieldType) (d + 1) := o
  unfold t_frame
  refine s_aload_n o dX11_frame_0 rfl 0 rfl ?_
  refine s_iconst o dX11_frame_1 ?_
  refine s_iconst o dX11_frame_2 ?_
  refine s_aload_n o dX11_frame_3 rfl 0 rfl ?_
  refine r_tgf vI rfl o hT tf_localTop tj_localTop (lw_all_tbl q2627) dX11_frame_4 (fun v1 hv1 => ?_)
  refine s_cv (d := d + 0) (C := "LazyForgeModel") (As := [vI 1, vI 0, vI v1]) (st := []) o (st_waits (mg Γ) d h hT 1 0 v1 (r32 rfl) (r32 rfl) hv1) mw_X11_waits rfl (Or.inl (lw_all_tbl q3264)) (lw_all_tbl qs130) (lw_all_tbl q3266) (fun t => rc_t o hT t) wt_0 rfl dX11_frame_7 rfl (rs := fun _ => []) (fun _ => rfl) (fun _ _ => ?_)
  refine s_aload_n o dX11_frame_10 rfl 0 rfl ?_
  refine s_aload_n o dX11_frame_11 rfl 0 rfl ?_
  refine r_tgf vI rfl o hT tf_localTop tj_localTop (lw_all_tbl q2627) dX11_frame_12 (fun v2 hv2 => ?_)
  refine r_tpf vI rfl o hT tf_base tj_base (lw_all_tbl q2626) dX11_frame_15 hv2 ty_int ?_
  refine s_aload_n o dX11_frame_18 rfl 0 rfl ?_
  refine s_dup o dX11_frame_19 (vA_cat (mg Γ) 21) ?_
  refine r_tgf vI rfl o hT tf_localTop tj_localTop (lw_all_tbl q2627) dX11_frame_20 (fun v3 hv3 => ?_)
  refine s_aload_n o dX11_frame_23 rfl 0 rfl ?_
  refine s_tga (x := 74) o hT tf_variableCounts ta_variableCounts (lw_all_tbl q2585) dX11_frame_24 ?_
  refine s_iload_n o dX11_frame_27 rfl 1 rfl ?_
  refine r_tiald o hT tr_variableCounts hl1 dX11_frame_28 (fun v4 hv4 => ?_)
  refine s_iadd o dX11_frame_29 ?_
  refine r_tpf vI rfl o hT tf_localTop tj_localTop (lw_all_tbl q2627) dX11_frame_30 (w32_R _) ty_int ?_
  exact s_vret o rfl dX11_frame_33 (fun _ hh => hh)
theorem dX11_reckon_0 : decode cX11_reckon 0 = .ok (.lload_n 2, 1) := by decide +kernel
theorem dX11_reckon_1 : decode cX11_reckon 1 = .ok (.invokestatic 688, 3) := by decide +kernel
theorem dX11_reckon_4 : decode cX11_reckon 4 = .ok (.ifCond .ne 11, 3) := by decide +kernel
theorem dX11_reckon_7 : decode cX11_reckon 7 = .ok (.lload 4, 2) := by decide +kernel
theorem dX11_reckon_9 : decode cX11_reckon 9 = .ok (.invokestatic 688, 3) := by decide +kernel
theorem dX11_reckon_12 : decode cX11_reckon 12 = .ok (.ifCond .eq 10, 3) := by decide +kernel
theorem dX11_reckon_15 : decode cX11_reckon 15 = .ok (.aload_n 0, 1) := by decide +kernel
theorem dX11_reckon_16 : decode cX11_reckon 16 = .ok (.iconst 2, 1) := by decide +kernel
theorem dX11_reckon_17 : decode cX11_reckon 17 = .ok (.iconst 4, 1) := by decide +kernel
theorem dX11_reckon_18 : decode cX11_reckon 18 = .ok (.invokevirtual 629, 3) := by decide +kernel
theorem dX11_reckon_21 : decode cX11_reckon 21 = .ok (.return_, 1) := by decide +kernel
theorem dX11_reckon_22 : decode cX11_reckon 22 = .ok (.lload_n 2, 1) := by decide +kernel
theorem dX11_reckon_23 : decode cX11_reckon 23 = .ok (.invokestatic 679, 3) := by decide +kernel
theorem dX11_reckon_26 : decode cX11_reckon 26 = .ok (.istore 6, 2) := by decide +kernel
theorem dX11_reckon_28 : decode cX11_reckon 28 = .ok (.lload 4, 2) := by decide +kernel
theorem dX11_reckon_30 : decode cX11_reckon 30 = .ok (.invokestatic 679, 3) := by decide +kernel
theorem dX11_reckon_33 : decode cX11_reckon 33 = .ok (.istore 7, 2) := by decide +kernel
theorem dX11_reckon_35 : decode cX11_reckon 35 = .ok (.iload_n 1, 1) := by decide +kernel
theorem dX11_reckon_36 : decode cX11_reckon 36 = .ok (.lookupswitch 237 #[(21, 191), (22, 214), (137, 116), (142, 100), (143, 68), (145, 84), (147, 116)], 68) := by decide +kernel
theorem dX11_reckon_104 : decode cX11_reckon 104 = .ok (.aload_n 0, 1) := by decide +kernel
theorem dX11_reckon_105 : decode cX11_reckon 105 = .ok (.iconst 0, 1) := by decide +kernel
theorem dX11_reckon_106 : decode cX11_reckon 106 = .ok (.iload 6, 2) := by decide +kernel
theorem dX11_reckon_108 : decode cX11_reckon 108 = .ok (.iload 7, 2) := by decide +kernel
theorem dX11_reckon_110 : decode cX11_reckon 110 = .ok (.iadd, 1) := by decide +kernel
theorem dX11_reckon_111 : decode cX11_reckon 111 = .ok (.invokestatic 650, 3) := by decide +kernel
theorem dX11_reckon_114 : decode cX11_reckon 114 = .ok (.invokevirtual 691, 3) := by decide +kernel
theorem dX11_reckon_117 : decode cX11_reckon 117 = .ok (.goto 176, 3) := by decide +kernel
theorem dX11_reckon_120 : decode cX11_reckon 120 = .ok (.aload_n 0, 1) := by decide +kernel
theorem dX11_reckon_121 : decode cX11_reckon 121 = .ok (.iconst 0, 1) := by decide +kernel
theorem dX11_reckon_122 : decode cX11_reckon 122 = .ok (.iload 6, 2) := by decide +kernel
theorem dX11_reckon_124 : decode cX11_reckon 124 = .ok (.iload 7, 2) := by decide +kernel
theorem dX11_reckon_126 : decode cX11_reckon 126 = .ok (.isub, 1) := by decide +kernel
theorem dX11_reckon_127 : decode cX11_reckon 127 = .ok (.invokestatic 650, 3) := by decide +kernel
theorem dX11_reckon_130 : decode cX11_reckon 130 = .ok (.invokevirtual 691, 3) := by decide +kernel
theorem dX11_reckon_133 : decode cX11_reckon 133 = .ok (.goto 160, 3) := by decide +kernel
theorem dX11_reckon_136 : decode cX11_reckon 136 = .ok (.aload_n 0, 1) := by decide +kernel
theorem dX11_reckon_137 : decode cX11_reckon 137 = .ok (.iconst 0, 1) := by decide +kernel
theorem dX11_reckon_138 : decode cX11_reckon 138 = .ok (.iload 6, 2) := by decide +kernel
theorem dX11_reckon_140 : decode cX11_reckon 140 = .ok (.iload 7, 2) := by decide +kernel
theorem dX11_reckon_142 : decode cX11_reckon 142 = .ok (.imul, 1) := by decide +kernel
theorem dX11_reckon_143 : decode cX11_reckon 143 = .ok (.invokestatic 650, 3) := by decide +kernel
theorem dX11_reckon_146 : decode cX11_reckon 146 = .ok (.invokevirtual 691, 3) := by decide +kernel
theorem dX11_reckon_149 : decode cX11_reckon 149 = .ok (.goto 144, 3) := by decide +kernel
theorem dX11_reckon_152 : decode cX11_reckon 152 = .ok (.iload 7, 2) := by decide +kernel
theorem dX11_reckon_154 : decode cX11_reckon 154 = .ok (.ifCond .ne 12, 3) := by decide +kernel
theorem dX11_reckon_157 : decode cX11_reckon 157 = .ok (.aload_n 0, 1) := by decide +kernel
theorem dX11_reckon_158 : decode cX11_reckon 158 = .ok (.iconst 2, 1) := by decide +kernel
theorem dX11_reckon_159 : decode cX11_reckon 159 = .ok (.iconst 2, 1) := by decide +kernel
theorem dX11_reckon_160 : decode cX11_reckon 160 = .ok (.invokevirtual 629, 3) := by decide +kernel
theorem dX11_reckon_163 : decode cX11_reckon 163 = .ok (.goto 130, 3) := by decide +kernel
theorem dX11_reckon_166 : decode cX11_reckon 166 = .ok (.iload_n 1, 1) := by decide +kernel
theorem dX11_reckon_167 : decode cX11_reckon 167 = .ok (.sipush 147, 3) := by decide +kernel
theorem dX11_reckon_170 : decode cX11_reckon 170 = .ok (.if_icmp .ne 31, 3) := by decide +kernel
theorem dX11_reckon_173 : decode cX11_reckon 173 = .ok (.aload_n 0, 1) := by decide +kernel
theorem dX11_reckon_174 : decode cX11_reckon 174 = .ok (.iconst 0, 1) := by decide +kernel
theorem dX11_reckon_175 : decode cX11_reckon 175 = .ok (.iload 7, 2) := by decide +kernel
theorem dX11_reckon_177 : decode cX11_reckon 177 = .ok (.iconst (-1), 1) := by decide +kernel
theorem dX11_reckon_178 : decode cX11_reckon 178 = .ok (.if_icmp .ne 9, 3) := by decide +kernel
theorem dX11_reckon_181 : decode cX11_reckon 181 = .ok (.iload 6, 2) := by decide +kernel
theorem dX11_reckon_183 : decode cX11_reckon 183 = .ok (.ineg, 1) := by decide +kernel
theorem dX11_reckon_184 : decode cX11_reckon 184 = .ok (.goto 8, 3) := by decide +kernel
theorem dX11_reckon_187 : decode cX11_reckon 187 = .ok (.iload 6, 2) := by decide +kernel
theorem dX11_reckon_189 : decode cX11_reckon 189 = .ok (.iload 7, 2) := by decide +kernel
theorem dX11_reckon_191 : decode cX11_reckon 191 = .ok (.idiv, 1) := by decide +kernel
theorem dX11_reckon_192 : decode cX11_reckon 192 = .ok (.invokestatic 650, 3) := by decide +kernel
theorem dX11_reckon_195 : decode cX11_reckon 195 = .ok (.invokevirtual 691, 3) := by decide +kernel
theorem dX11_reckon_198 : decode cX11_reckon 198 = .ok (.goto 95, 3) := by decide +kernel
theorem dX11_reckon_201 : decode cX11_reckon 201 = .ok (.aload_n 0, 1) := by decide +kernel
theorem dX11_reckon_202 : decode cX11_reckon 202 = .ok (.iconst 0, 1) := by decide +kernel
theorem dX11_reckon_203 : decode cX11_reckon 203 = .ok (.iload 7, 2) := by decide +kernel
theorem dX11_reckon_205 : decode cX11_reckon 205 = .ok (.iconst (-1), 1) := by decide +kernel
theorem dX11_reckon_206 : decode cX11_reckon 206 = .ok (.if_icmp .ne 7, 3) := by decide +kernel
theorem dX11_reckon_209 : decode cX11_reckon 209 = .ok (.iconst 0, 1) := by decide +kernel
theorem dX11_reckon_210 : decode cX11_reckon 210 = .ok (.goto 8, 3) := by decide +kernel
theorem dX11_reckon_213 : decode cX11_reckon 213 = .ok (.iload 6, 2) := by decide +kernel
theorem dX11_reckon_215 : decode cX11_reckon 215 = .ok (.iload 7, 2) := by decide +kernel
theorem dX11_reckon_217 : decode cX11_reckon 217 = .ok (.irem, 1) := by decide +kernel
theorem dX11_reckon_218 : decode cX11_reckon 218 = .ok (.invokestatic 650, 3) := by decide +kernel
theorem dX11_reckon_221 : decode cX11_reckon 221 = .ok (.invokevirtual 691, 3) := by decide +kernel
theorem dX11_reckon_224 : decode cX11_reckon 224 = .ok (.goto 69, 3) := by decide +kernel
theorem dX11_reckon_227 : decode cX11_reckon 227 = .ok (.aload_n 0, 1) := by decide +kernel
theorem dX11_reckon_228 : decode cX11_reckon 228 = .ok (.iconst 2, 1) := by decide +kernel
theorem dX11_reckon_229 : decode cX11_reckon 229 = .ok (.iload 6, 2) := by decide +kernel
theorem dX11_reckon_231 : decode cX11_reckon 231 = .ok (.iload 7, 2) := by decide +kernel
theorem dX11_reckon_233 : decode cX11_reckon 233 = .ok (.if_icmp .ne 7, 3) := by decide +kernel
theorem dX11_reckon_236 : decode cX11_reckon 236 = .ok (.iconst 1, 1) := by decide +kernel
theorem dX11_reckon_237 : decode cX11_reckon 237 = .ok (.goto 4, 3) := by decide +kernel
theorem dX11_reckon_240 : decode cX11_reckon 240 = .ok (.iconst 0, 1) := by decide +kernel
theorem dX11_reckon_241 : decode cX11_reckon 241 = .ok (.invokestatic 650, 3) := by decide +kernel
theorem dX11_reckon_244 : decode cX11_reckon 244 = .ok (.invokevirtual 691, 3) := by decide +kernel
theorem dX11_reckon_247 : decode cX11_reckon 247 = .ok (.goto 46, 3) := by decide +kernel
theorem dX11_reckon_250 : decode cX11_reckon 250 = .ok (.aload_n 0, 1) := by decide +kernel
theorem dX11_reckon_251 : decode cX11_reckon 251 = .ok (.iconst 2, 1) := by decide +kernel
theorem dX11_reckon_252 : decode cX11_reckon 252 = .ok (.iload 6, 2) := by decide +kernel
theorem dX11_reckon_254 : decode cX11_reckon 254 = .ok (.iload 7, 2) := by decide +kernel
theorem dX11_reckon_256 : decode cX11_reckon 256 = .ok (.if_icmp .gt 7, 3) := by decide +kernel
theorem dX11_reckon_259 : decode cX11_reckon 259 = .ok (.iconst 1, 1) := by decide +kernel
theorem dX11_reckon_260 : decode cX11_reckon 260 = .ok (.goto 4, 3) := by decide +kernel
theorem dX11_reckon_263 : decode cX11_reckon 263 = .ok (.iconst 0, 1) := by decide +kernel
theorem dX11_reckon_264 : decode cX11_reckon 264 = .ok (.invokestatic 650, 3) := by decide +kernel
theorem dX11_reckon_267 : decode cX11_reckon 267 = .ok (.invokevirtual 691, 3) := by decide +kernel
theorem dX11_reckon_270 : decode cX11_reckon 270 = .ok (.goto 23, 3) := by decide +kernel
theorem dX11_reckon_273 : decode cX11_reckon 273 = .ok (.aload_n 0, 1) := by decide +kernel
theorem dX11_reckon_274 : decode cX11_reckon 274 = .ok (.iconst 2, 1) := by decide +kernel
theorem dX11_reckon_275 : decode cX11_reckon 275 = .ok (.iload 6, 2) := by decide +kernel
theorem dX11_reckon_277 : decode cX11_reckon 277 = .ok (.iload 7, 2) := by decide +kernel
theorem dX11_reckon_279 : decode cX11_reckon 279 = .ok (.if_icmp .ge 7, 3) := by decide +kernel
theorem dX11_reckon_282 : decode cX11_reckon 282 = .ok (.iconst 1, 1) := by decide +kernel
theorem dX11_reckon_283 : decode cX11_reckon 283 = .ok (.goto 4, 3) := by decide +kernel
theorem dX11_reckon_286 : decode cX11_reckon 286 = .ok (.iconst 0, 1) := by decide +kernel
theorem dX11_reckon_287 : decode cX11_reckon 287 = .ok (.invokestatic 650, 3) := by decide +kernel
theorem dX11_reckon_290 : decode cX11_reckon 290 = .ok (.invokevirtual 691, 3) := by decide +kernel
theorem dX11_reckon_293 : decode cX11_reckon 293 = .ok (.return_, 1) := by decide +kernel
theorem mw_X11_reckon : MW yX11_reckon (Cond.code yX11_reckon cX11_reckon 8 (Option.none : Option Jvm.ClassFile.FieldType)) cX11_reckon 8 (Option.none : Option Jvm.ClassFile.FieldType) 3 := ⟨rfl, ⟨(lw_all_tbl q3288), rfl, (lw_all_tbl q173)⟩, rfl, ⟨by decide, by decide⟩, by decide +kernel⟩
noncomputable def t_reckon_15  : Mo TS Int :=
  bnd (t_ends 2 4) fun _ =>
  pr 0
theorem st_reckon_15 {Γ : Gm} {h : CH} {d : Nat} (hT : HT h) (o : Ok Γ "LazyForgeModel" cX11_reckon 8 (Option.none : Option Jvm.ClassFile.FieldType) (d + 1))   : Sx Γ (fun t => (h, t)) (fun a s => mt Γ = (0, a, ((h, s) : Wd))) 15 [(0, vA (mg Γ) 21)] [] (t_reckon_15) := by
  unfold t_reckon_15
  refine s_aload_n o dX11_reckon_15 rfl 0 rfl ?_
  refine s_iconst o dX11_reckon_16 ?_
  refine s_iconst o dX11_reckon_17 ?_
  refine s_cv (d := d + 0) (C := "LazyForgeModel") (As := [vI 2, vI 4]) (st := []) o (st_ends (mg Γ) d h hT 2 4 (r32 rfl) (r32 rfl)) mw_X11_ends rfl (Or.inl (lw_all_tbl q3238)) (lw_all_tbl qs126) (lw_all_tbl q3240) (fun t => rc_t o hT t) wt_0 rfl dX11_reckon_18 rfl (rs := fun _ => []) (fun _ => rfl) (fun _ _ => ?_)
  exact s_vret o rfl dX11_reckon_21 (fun _ hh => hh)
noncomputable def t_reckon_192  (k0 : Int) (k1 : Int) : Mo TS Int :=
  bnd (t_value k1 k0) fun v1 =>
  bnd (t_gives v1) fun _ =>
  pr 0
theorem st_reckon_192 {Γ : Gm} {h : CH} {d : Nat} (hT : HT h) (o : Ok Γ "LazyForgeModel" cX11_reckon 8 (Option.none : Option Jvm.ClassFile.FieldType) (d + 1))   (k0 : Int) (k1 : Int) (hk0 : R32 k0) (hk1 : rg .boolean k1) : Sx Γ (fun t => (h, t)) (fun a s => mt Γ = (0, a, ((h, s) : Wd))) 192 [] [vI k0, vI k1, vA (mg Γ) 21] (t_reckon_192 k0 k1) := by
  unfold t_reckon_192
  refine s_cs (d := d + 0) (As := [vI k1, vI k0]) (st := [vA (mg Γ) 21]) o (st_value (mg Γ) d h k1 k0 (rZ hk1) hk0) mw_X11_value rfl (Or.inl (lw_all_tbl q3242)) (lw_all_tbl q3243) (wt_A wt_0) rfl dX11_reckon_192 rfl (rs := fun r => [vJ r, vA (mg Γ) 21]) (fun _ => rfl) (fun v1 hv1 => ?_)
  refine s_cv (d := d + 0) (C := "LazyForgeModel") (As := [vJ v1]) (st := []) o (st_gives (mg Γ) d h hT v1 (hv1 _ rfl)) mw_X11_gives rfl (Or.inl (lw_all_tbl q3257)) (lw_all_tbl qs129) (lw_all_tbl q3259) (fun t => rc_t o hT t) wt_0 rfl dX11_reckon_195 rfl (rs := fun _ => []) (fun _ => rfl) (fun _ _ => ?_)
  refine s_goto (tgt := 293) o dX11_reckon_198 (by decide) ?_
  exact s_vret o rfl dX11_reckon_293 (fun _ hh => hh)
noncomputable def t_reckon_218  (k0 : Int) (k1 : Int) : Mo TS Int :=
  bnd (t_value k1 k0) fun v1 =>
  bnd (t_gives v1) fun _ =>
  pr 0
theorem st_reckon_218 {Γ : Gm} {h : CH} {d : Nat} (hT : HT h) (o : Ok Γ "LazyForgeModel" cX11_reckon 8 (Option.none : Option Jvm.ClassFile.FieldType) (d + 1))   (k0 : Int) (k1 : Int) (hk0 : R32 k0) (hk1 : rg .boolean k1) : Sx Γ (fun t => (h, t)) (fun a s => mt Γ = (0, a, ((h, s) : Wd))) 218 [] [vI k0, vI k1, vA (mg Γ) 21] (t_reckon_218 k0 k1) := by
  unfold t_reckon_218
  refine s_cs (d := d + 0) (As := [vI k1, vI k0]) (st := [vA (mg Γ) 21]) o (st_value (mg Γ) d h k1 k0 (rZ hk1) hk0) mw_X11_value rfl (Or.inl (lw_all_tbl q3242)) (lw_all_tbl q3243) (wt_A wt_0) rfl dX11_reckon_218 rfl (rs := fun r => [vJ r, vA (mg Γ) 21]) (fun _ => rfl) (fun v1 hv1 => ?_)
  refine s_cv (d := d + 0) (C := "LazyForgeModel") (As := [vJ v1]) (st := []) o (st_gives (mg Γ) d h hT v1 (hv1 _ rfl)) mw_X11_gives rfl (Or.inl (lw_all_tbl q3257)) (lw_all_tbl qs129) (lw_all_tbl q3259) (fun t => rc_t o hT t) wt_0 rfl dX11_reckon_221 rfl (rs := fun _ => []) (fun _ => rfl) (fun _ _ => ?_)
  refine s_goto (tgt := 293) o dX11_reckon_224 (by decide) ?_
  exact s_vret o rfl dX11_reckon_293 (fun _ hh => hh)
noncomputable def t_reckon_241  (k0 : Int) (k1 : Int) : Mo TS Int :=
  bnd (t_value k1 k0) fun v1 =>
  bnd (t_gives v1) fun _ =>
  pr 0
theorem st_reckon_241 {Γ : Gm} {h : CH} {d : Nat} (hT : HT h) (o : Ok Γ "LazyForgeModel" cX11_reckon 8 (Option.none : Option Jvm.ClassFile.FieldType) (d + 1))   (k0 : Int) (k1 : Int) (hk0 : rg .boolean k0) (hk1 : R32 k1) : Sx Γ (fun t => (h, t)) (fun a s => mt Γ = (0, a, ((h, s) : Wd))) 241 [] [vI k0, vI k1, vA (mg Γ) 21] (t_reckon_241 k0 k1) := by
  unfold t_reckon_241
  refine s_cs (d := d + 0) (As := [vI k1, vI k0]) (st := [vA (mg Γ) 21]) o (st_value (mg Γ) d h k1 k0 hk1 (rZ hk0)) mw_X11_value rfl (Or.inl (lw_all_tbl q3242)) (lw_all_tbl q3243) (wt_A wt_0) rfl dX11_reckon_241 rfl (rs := fun r => [vJ r, vA (mg Γ) 21]) (fun _ => rfl) (fun v1 hv1 => ?_)
  refine s_cv (d := d + 0) (C := "LazyForgeModel") (As := [vJ v1]) (st := []) o (st_gives (mg Γ) d h hT v1 (hv1 _ rfl)) mw_X11_gives rfl (Or.inl (lw_all_tbl q3257)) (lw_all_tbl qs129) (lw_all_tbl q3259) (fun t => rc_t o hT t) wt_0 rfl dX11_reckon_244 rfl (rs := fun _ => []) (fun _ => rfl) (fun _ _ => ?_)
  refine s_goto (tgt := 293) o dX11_reckon_247 (by decide) ?_
  exact s_vret o rfl dX11_reckon_293 (fun _ hh => hh)
noncomputable def t_reckon_264  (k0 : Int) (k1 : Int) : Mo TS Int :=
  bnd (t_value k1 k0) fun v1 =>
  bnd (t_gives v1) fun _ =>
  pr 0
theorem st_reckon_264 {Γ : Gm} {h : CH} {d : Nat} (hT : HT h) (o : Ok Γ "LazyForgeModel" cX11_reckon 8 (Option.none : Option Jvm.ClassFile.FieldType) (d + 1))   (k0 : Int) (k1 : Int) (hk0 : rg .boolean k0) (hk1 : R32 k1) : Sx Γ (fun t => (h, t)) (fun a s => mt Γ = (0, a, ((h, s) : Wd))) 264 [] [vI k0, vI k1, vA (mg Γ) 21] (t_reckon_264 k0 k1) := by
  unfold t_reckon_264
  refine s_cs (d := d + 0) (As := [vI k1, vI k0]) (st := [vA (mg Γ) 21]) o (st_value (mg Γ) d h k1 k0 hk1 (rZ hk0)) mw_X11_value rfl (Or.inl (lw_all_tbl q3242)) (lw_all_tbl q3243) (wt_A wt_0) rfl dX11_reckon_264 rfl (rs := fun r => [vJ r, vA (mg Γ) 21]) (fun _ => rfl) (fun v1 hv1 => ?_)
  refine s_cv (d := d + 0) (C := "LazyForgeModel") (As := [vJ v1]) (st := []) o (st_gives (mg Γ) d h hT v1 (hv1 _ rfl)) mw_X11_gives rfl (Or.inl (lw_all_tbl q3257)) (lw_all_tbl qs129) (lw_all_tbl q3259) (fun t => rc_t o hT t) wt_0 rfl dX11_reckon_267 rfl (rs := fun _ => []) (fun _ => rfl) (fun _ _ => ?_)
  refine s_goto (tgt := 293) o dX11_reckon_270 (by decide) ?_
  exact s_vret o rfl dX11_reckon_293 (fun _ hh => hh)
noncomputable def t_reckon_287  (k0 : Int) (k1 : Int) : Mo TS Int :=
  bnd (t_value k1 k0) fun v1 =>
  bnd (t_gives v1) fun _ =>
  pr 0
theorem st_reckon_287 {Γ : Gm} {h : CH} {d : Nat} (hT : HT h) (o : Ok Γ "LazyForgeModel" cX11_reckon 8 (Option.none : Option Jvm.ClassFile.FieldType) (d + 1))   (k0 : Int) (k1 : Int) (hk0 : rg .boolean k0) (hk1 : R32 k1) : Sx Γ (fun t => (h, t)) (fun a s => mt Γ = (0, a, ((h, s) : Wd))) 287 [] [vI k0, vI k1, vA (mg Γ) 21] (t_reckon_287 k0 k1) := by
  unfold t_reckon_287
  refine s_cs (d := d + 0) (As := [vI k1, vI k0]) (st := [vA (mg Γ) 21]) o (st_value (mg Γ) d h k1 k0 hk1 (rZ hk0)) mw_X11_value rfl (Or.inl (lw_all_tbl q3242)) (lw_all_tbl q3243) (wt_A wt_0) rfl dX11_reckon_287 rfl (rs := fun r => [vJ r, vA (mg Γ) 21]) (fun _ => rfl) (fun v1 hv1 => ?_)
  refine s_cv (d := d + 0) (C := "LazyForgeModel") (As := [vJ v1]) (st := []) o (st_gives (mg Γ) d h hT v1 (hv1 _ rfl)) mw_X11_gives rfl (Or.inl (lw_all_tbl q3257)) (lw_all_tbl qs129) (lw_all_tbl q3259) (fun t => rc_t o hT t) wt_0 rfl dX11_reckon_290 rfl (rs := fun _ => []) (fun _ => rfl) (fun _ _ => ?_)
  exact s_vret o rfl dX11_reckon_293 (fun _ hh => hh)
noncomputable def t_reckon (l1 : Int) (l2 : Int) (l4 : Int) : Mo TS Int :=
  bnd (t_kindOf l2) fun v1 =>
  if ¬ v1 = 0 then
    t_reckon_15
  else
    bnd (t_kindOf l4) fun v2 =>
    if v2 = 0 then
      bnd (t_of l2) fun v3 =>
      bnd (t_of l4) fun v4 =>
      if l1 = 21 then
        if ¬ v3 = v4 then
          t_reckon_241 0 2
        else
          t_reckon_241 1 2
      else
        if l1 = 22 then
          if v4 < v3 then
            t_reckon_264 0 2
          else
            t_reckon_264 1 2
        else
          if l1 = 137 then
            if ¬ v4 = 0 then
              if ¬ l1 = 147 then
                if ¬ v4 = (-1) then
                  nz v4
                  (t_reckon_218 (irm v3 v4) 0)
                else
                  t_reckon_218 0 0
              else
                if ¬ v4 = (-1) then
                  nz v4
                  (t_reckon_192 (idv v3 v4) 0)
                else
                  t_reckon_192 (w32 (-v3)) 0
            else
              bnd (t_ends 2 2) fun _ =>
              pr 0
          else
            if l1 = 142 then
              bnd (t_value 0 (w32 (v3 * v4))) fun v11 =>
              bnd (t_gives v11) fun _ =>
              pr 0
            else
              if l1 = 143 then
                bnd (t_value 0 (w32 (v3 + v4))) fun v13 =>
                bnd (t_gives v13) fun _ =>
                pr 0
              else
                if l1 = 145 then
                  bnd (t_value 0 (w32 (v3 - v4))) fun v15 =>
                  bnd (t_gives v15) fun _ =>
                  pr 0
                else
                  if l1 = 147 then
                    if ¬ v4 = 0 then
                      if ¬ l1 = 147 then
                        if ¬ v4 = (-1) then
                          nz v4
                          (t_reckon_218 (irm v3 v4) 0)
                        else
                          t_reckon_218 0 0
                      else
                        if ¬ v4 = (-1) then
                          nz v4
                          (t_reckon_192 (idv v3 v4) 0)
                        else
                          t_reckon_192 (w32 (-v3)) 0
                    else
                      bnd (t_ends 2 2) fun _ =>
                      pr 0
                  else
                    if v4 ≤ v3 then
                      t_reckon_287 0 2
                    else
                      t_reckon_287 1 2
    else
      t_reckon_15
theorem st_reckon (g : gC) (d : Nat) (h : CH) (hT : HT h) (l1 : Int) (l2 : Int) (l4 : Int) (hl1 : R32 l1) (hl2 : R64 l2) (hl4 : R64 l4) : SF g yX11_reckon (Cond.code yX11_reckon cX11_reckon 8 (Option.none : Option Jvm.ClassFile.FieldType)) (Option.none : Option Jvm.ClassFile.FieldType) (d + 1) [vA g 21, vI l1, vJ l2, vJ l4] (fun t => (h, t)) (t_reckon l1 l2 l4) := by
  refine SF.of (lv := [(0, vA g 21), (1, vI l1), (2, vJ l2), (4, vJ l4)]) (by decide) (wt_A (wt_I (wt_J (wt_J wt_0)))) rfl (by simp only [la_A, la_I, la_J, la_0]) (fun Γ hg hnm o => ?_)
  subst hg
  have o : Ok Γ "LazyForgeModel" cX11_reckon 8 (Option.none : Option Jvm.ClassFile.FieldType) (d + 1) := o
  unfold t_reckon
  refine s_lload_n o dX11_reckon_0 rfl 2 rfl ?_
  refine s_cs (d := d + 0) (As := [vJ l2]) (st := []) o (st_kindOf (mg Γ) d h l2 hl2) mw_X11_kindOf rfl (Or.inl (lw_all_tbl q3254)) (lw_all_tbl q3255) wt_0 rfl dX11_reckon_1 rfl (rs := fun r => [vI r]) (fun _ => rfl) (fun v1 hv1 => ?_)
  refine s_if_ne (tgt := 15) o dX11_reckon_4 (by decide) (hv1 _ rfl) ?_ ?_
  · refine r_to [(0, vA (mg Γ) 21)] [0] rfl ?_
    exact st_reckon_15 hT o
  · refine s_lload o dX11_reckon_7 3 rfl ?_
    refine s_cs (d := d + 0) (As := [vJ l4]) (st := []) o (st_kindOf (mg Γ) d h l4 hl4) mw_X11_kindOf rfl (Or.inl (lw_all_tbl q3254)) (lw_all_tbl q3255) wt_0 rfl dX11_reckon_9 rfl (rs := fun r => [vI r]) (fun _ => rfl) (fun v2 hv2 => ?_)
    refine s_if_eq (tgt := 22) o dX11_reckon_12 (by decide) (hv2 _ rfl) ?_ ?_
    · refine s_lload_n o dX11_reckon_22 rfl 2 rfl ?_
      refine s_cs (d := d + 0) (As := [vJ l2]) (st := []) o (st_of (mg Γ) d h l2 hl2) mw_X11_of rfl (Or.inl (lw_all_tbl q3261)) (lw_all_tbl q3262) wt_0 rfl dX11_reckon_23 rfl (rs := fun r => [vI r]) (fun _ => rfl) (fun v3 hv3 => ?_)
      refine r_istore o dX11_reckon_26 rfl ⟨(Nat.ne_of_beq_eq_false rfl), (fun _ => (vA_cat (mg Γ) 21)), ⟨(Nat.ne_of_beq_eq_false rfl), (fun _ => rfl), ⟨(Nat.ne_of_beq_eq_false rfl), (fun e => absurd e (Nat.ne_of_beq_eq_false rfl)), ⟨(Nat.ne_of_beq_eq_false rfl), (fun e => absurd e (Nat.ne_of_beq_eq_false rfl)), trivial⟩⟩⟩⟩ ?_
      refine s_lload o dX11_reckon_28 4 rfl ?_
      refine s_cs (d := d + 0) (As := [vJ l4]) (st := []) o (st_of (mg Γ) d h l4 hl4) mw_X11_of rfl (Or.inl (lw_all_tbl q3261)) (lw_all_tbl q3262) wt_0 rfl dX11_reckon_30 rfl (rs := fun r => [vI r]) (fun _ => rfl) (fun v4 hv4 => ?_)
      refine r_istore o dX11_reckon_33 rfl ⟨(Nat.ne_of_beq_eq_false rfl), (fun _ => rfl), ⟨(Nat.ne_of_beq_eq_false rfl), (fun _ => (vA_cat (mg Γ) 21)), ⟨(Nat.ne_of_beq_eq_false rfl), (fun _ => rfl), ⟨(Nat.ne_of_beq_eq_false rfl), (fun e => absurd e (Nat.ne_of_beq_eq_false rfl)), ⟨(Nat.ne_of_beq_eq_false rfl), (fun e => absurd e (Nat.ne_of_beq_eq_false rfl)), trivial⟩⟩⟩⟩⟩ ?_
      refine s_iload_n o dX11_reckon_35 rfl 3 rfl ?_
      refine s_case (P := True) (fun e4 => ?_) (fun e4 => ?_)
      · refine s_lookE o e4 dX11_reckon_36 (r32 rfl) rfl rfl (tgt := 227) (by decide) ?_
        refine s_aload_n o dX11_reckon_227 rfl 2 rfl ?_
        refine s_iconst o dX11_reckon_228 ?_
        refine s_iload o dX11_reckon_229 1 rfl ?_
        refine s_iload o dX11_reckon_231 0 rfl ?_
        refine s_icmp_ne (tgt := 240) o dX11_reckon_233 (by decide) (hv3 _ rfl) (hv4 _ rfl) ?_ ?_
        · refine s_iconst o dX11_reckon_240 ?_
          refine r_to [] [] rfl ?_
          exact st_reckon_241 hT o 0 2 (Or.inl rfl) (r32 rfl)
        · refine s_iconst o dX11_reckon_236 ?_
          refine s_goto (tgt := 241) o dX11_reckon_237 (by decide) ?_
          refine r_to [] [] rfl ?_
          exact st_reckon_241 hT o 1 2 (Or.inr rfl) (r32 rfl)
      · refine s_case (P := True) (fun e5 => ?_) (fun e5 => ?_)
        · refine s_lookE o e5 dX11_reckon_36 (r32 rfl) rfl rfl (tgt := 250) (by decide) ?_
          refine s_aload_n o dX11_reckon_250 rfl 2 rfl ?_
          refine s_iconst o dX11_reckon_251 ?_
          refine s_iload o dX11_reckon_252 1 rfl ?_
          refine s_iload o dX11_reckon_254 0 rfl ?_
          refine s_icmp_gt (tgt := 263) o dX11_reckon_256 (by decide) (hv3 _ rfl) (hv4 _ rfl) ?_ ?_
          · refine s_iconst o dX11_reckon_263 ?_
            refine r_to [] [] rfl ?_
            exact st_reckon_264 hT o 0 2 (Or.inl rfl) (r32 rfl)
          · refine s_iconst o dX11_reckon_259 ?_
            refine s_goto (tgt := 264) o dX11_reckon_260 (by decide) ?_
            refine r_to [] [] rfl ?_
            exact st_reckon_264 hT o 1 2 (Or.inr rfl) (r32 rfl)
        · refine s_case (P := True) (fun e6 => ?_) (fun e6 => ?_)
          · refine s_lookE o e6 dX11_reckon_36 (r32 rfl) rfl rfl (tgt := 152) (by decide) ?_
            refine s_iload o dX11_reckon_152 0 rfl ?_
            refine s_if_ne (tgt := 166) o dX11_reckon_154 (by decide) (hv4 _ rfl) ?_ ?_
            · refine s_iload_n o dX11_reckon_166 rfl 3 rfl ?_
              refine s_sipush o dX11_reckon_167 rfl ?_
              refine s_icmp_ne (tgt := 201) o dX11_reckon_170 (by decide) hl1 (r32 rfl) ?_ ?_
              · refine s_aload_n o dX11_reckon_201 rfl 2 rfl ?_
                refine s_iconst o dX11_reckon_202 ?_
                refine s_iload o dX11_reckon_203 0 rfl ?_
                refine s_iconst o dX11_reckon_205 ?_
                refine s_icmp_ne (tgt := 213) o dX11_reckon_206 (by decide) (hv4 _ rfl) (r32 rfl) ?_ ?_
                · refine s_iload o dX11_reckon_213 1 rfl ?_
                  refine s_iload o dX11_reckon_215 0 rfl ?_
                  refine s_nz (fun z7 => ?_)
                  refine s_irem o dX11_reckon_217 (hv4 _ rfl) z7 ?_
                  refine r_to [] [] rfl ?_
                  exact st_reckon_218 hT o (irm v3 v4) 0 (irm_R _ _) (Or.inl rfl)
                · refine s_iconst o dX11_reckon_209 ?_
                  refine s_goto (tgt := 218) o dX11_reckon_210 (by decide) ?_
                  refine r_to [] [] rfl ?_
                  exact st_reckon_218 hT o 0 0 (r32 rfl) (Or.inl rfl)
              · refine s_aload_n o dX11_reckon_173 rfl 2 rfl ?_
                refine s_iconst o dX11_reckon_174 ?_
                refine s_iload o dX11_reckon_175 0 rfl ?_
                refine s_iconst o dX11_reckon_177 ?_
                refine s_icmp_ne (tgt := 187) o dX11_reckon_178 (by decide) (hv4 _ rfl) (r32 rfl) ?_ ?_
                · refine s_iload o dX11_reckon_187 1 rfl ?_
                  refine s_iload o dX11_reckon_189 0 rfl ?_
                  refine s_nz (fun z8 => ?_)
                  refine s_idiv o dX11_reckon_191 (hv4 _ rfl) z8 ?_
                  refine r_to [] [] rfl ?_
                  exact st_reckon_192 hT o (idv v3 v4) 0 (idv_R _ _) (Or.inl rfl)
                · refine s_iload o dX11_reckon_181 1 rfl ?_
                  refine s_ineg o dX11_reckon_183 ?_
                  refine s_goto (tgt := 192) o dX11_reckon_184 (by decide) ?_
                  refine r_to [] [] rfl ?_
                  exact st_reckon_192 hT o (w32 (-v3)) 0 (w32_R _) (Or.inl rfl)
            · refine s_aload_n o dX11_reckon_157 rfl 2 rfl ?_
              refine s_iconst o dX11_reckon_158 ?_
              refine s_iconst o dX11_reckon_159 ?_
              refine s_cv (d := d + 0) (C := "LazyForgeModel") (As := [vI 2, vI 2]) (st := []) o (st_ends (mg Γ) d h hT 2 2 (r32 rfl) (r32 rfl)) mw_X11_ends rfl (Or.inl (lw_all_tbl q3238)) (lw_all_tbl qs126) (lw_all_tbl q3240) (fun t => rc_t o hT t) wt_0 rfl dX11_reckon_160 rfl (rs := fun _ => []) (fun _ => rfl) (fun _ _ => ?_)
              refine s_goto (tgt := 293) o dX11_reckon_163 (by decide) ?_
              exact s_vret o rfl dX11_reckon_293 (fun _ hh => hh)
          · refine s_case (P := True) (fun e9 => ?_) (fun e9 => ?_)
            · refine s_lookE o e9 dX11_reckon_36 (r32 rfl) rfl rfl (tgt := 136) (by decide) ?_
              refine s_aload_n o dX11_reckon_136 rfl 2 rfl ?_
              refine s_iconst o dX11_reckon_137 ?_
              refine s_iload o dX11_reckon_138 1 rfl ?_
              refine s_iload o dX11_reckon_140 0 rfl ?_
              refine s_imul o dX11_reckon_142 ?_
              refine s_cs (d := d + 0) (As := [vI 0, vI (w32 (v3 * v4))]) (st := [vA (mg Γ) 21]) o (st_value (mg Γ) d h 0 (w32 (v3 * v4)) (r32 rfl) (w32_R _)) mw_X11_value rfl (Or.inl (lw_all_tbl q3242)) (lw_all_tbl q3243) (wt_A wt_0) rfl dX11_reckon_143 rfl (rs := fun r => [vJ r, vA (mg Γ) 21]) (fun _ => rfl) (fun v11 hv11 => ?_)
              refine s_cv (d := d + 0) (C := "LazyForgeModel") (As := [vJ v11]) (st := []) o (st_gives (mg Γ) d h hT v11 (hv11 _ rfl)) mw_X11_gives rfl (Or.inl (lw_all_tbl q3257)) (lw_all_tbl qs129) (lw_all_tbl q3259) (fun t => rc_t o hT t) wt_0 rfl dX11_reckon_146 rfl (rs := fun _ => []) (fun _ => rfl) (fun _ _ => ?_)
              refine s_goto (tgt := 293) o dX11_reckon_149 (by decide) ?_
              exact s_vret o rfl dX11_reckon_293 (fun _ hh => hh)
            · refine s_case (P := True) (fun e11 => ?_) (fun e11 => ?_)
              · refine s_lookE o e11 dX11_reckon_36 (r32 rfl) rfl rfl (tgt := 104) (by decide) ?_
                refine s_aload_n o dX11_reckon_104 rfl 2 rfl ?_
                refine s_iconst o dX11_reckon_105 ?_
                refine s_iload o dX11_reckon_106 1 rfl ?_
                refine s_iload o dX11_reckon_108 0 rfl ?_
                refine s_iadd o dX11_reckon_110 ?_
                refine s_cs (d := d + 0) (As := [vI 0, vI (w32 (v3 + v4))]) (st := [vA (mg Γ) 21]) o (st_value (mg Γ) d h 0 (w32 (v3 + v4)) (r32 rfl) (w32_R _)) mw_X11_value rfl (Or.inl (lw_all_tbl q3242)) (lw_all_tbl q3243) (wt_A wt_0) rfl dX11_reckon_111 rfl (rs := fun r => [vJ r, vA (mg Γ) 21]) (fun _ => rfl) (fun v13 hv13 => ?_)
                refine s_cv (d := d + 0) (C := "LazyForgeModel") (As := [vJ v13]) (st := []) o (st_gives (mg Γ) d h hT v13 (hv13 _ rfl)) mw_X11_gives rfl (Or.inl (lw_all_tbl q3257)) (lw_all_tbl qs129) (lw_all_tbl q3259) (fun t => rc_t o hT t) wt_0 rfl dX11_reckon_114 rfl (rs := fun _ => []) (fun _ => rfl) (fun _ _ => ?_)
                refine s_goto (tgt := 293) o dX11_reckon_117 (by decide) ?_
                exact s_vret o rfl dX11_reckon_293 (fun _ hh => hh)
              · refine s_case (P := True) (fun e13 => ?_) (fun e13 => ?_)
                · refine s_lookE o e13 dX11_reckon_36 (r32 rfl) rfl rfl (tgt := 120) (by decide) ?_
                  refine s_aload_n o dX11_reckon_120 rfl 2 rfl ?_
                  refine s_iconst o dX11_reckon_121 ?_
                  refine s_iload o dX11_reckon_122 1 rfl ?_
                  refine s_iload o dX11_reckon_124 0 rfl ?_
                  refine s_isub o dX11_reckon_126 ?_
                  refine s_cs (d := d + 0) (As := [vI 0, vI (w32 (v3 - v4))]) (st := [vA (mg Γ) 21]) o (st_value (mg Γ) d h 0 (w32 (v3 - v4)) (r32 rfl) (w32_R _)) mw_X11_value rfl (Or.inl (lw_all_tbl q3242)) (lw_all_tbl q3243) (wt_A wt_0) rfl dX11_reckon_127 rfl (rs := fun r => [vJ r, vA (mg Γ) 21]) (fun _ => rfl) (fun v15 hv15 => ?_)
                  refine s_cv (d := d + 0) (C := "LazyForgeModel") (As := [vJ v15]) (st := []) o (st_gives (mg Γ) d h hT v15 (hv15 _ rfl)) mw_X11_gives rfl (Or.inl (lw_all_tbl q3257)) (lw_all_tbl qs129) (lw_all_tbl q3259) (fun t => rc_t o hT t) wt_0 rfl dX11_reckon_130 rfl (rs := fun _ => []) (fun _ => rfl) (fun _ _ => ?_)
                  refine s_goto (tgt := 293) o dX11_reckon_133 (by decide) ?_
                  exact s_vret o rfl dX11_reckon_293 (fun _ hh => hh)
                · refine s_case (P := True) (fun e15 => ?_) (fun e15 => ?_)
                  · refine s_lookE o e15 dX11_reckon_36 (r32 rfl) rfl rfl (tgt := 152) (by decide) ?_
                    refine s_iload o dX11_reckon_152 0 rfl ?_
                    refine s_if_ne (tgt := 166) o dX11_reckon_154 (by decide) (hv4 _ rfl) ?_ ?_
                    · refine s_iload_n o dX11_reckon_166 rfl 3 rfl ?_
                      refine s_sipush o dX11_reckon_167 rfl ?_
                      refine s_icmp_ne (tgt := 201) o dX11_reckon_170 (by decide) hl1 (r32 rfl) ?_ ?_
                      · refine s_aload_n o dX11_reckon_201 rfl 2 rfl ?_
                        refine s_iconst o dX11_reckon_202 ?_
                        refine s_iload o dX11_reckon_203 0 rfl ?_
                        refine s_iconst o dX11_reckon_205 ?_
                        refine s_icmp_ne (tgt := 213) o dX11_reckon_206 (by decide) (hv4 _ rfl) (r32 rfl) ?_ ?_
                        · refine s_iload o dX11_reckon_213 1 rfl ?_
                          refine s_iload o dX11_reckon_215 0 rfl ?_
                          refine s_nz (fun z16 => ?_)
                          refine s_irem o dX11_reckon_217 (hv4 _ rfl) z16 ?_
                          refine r_to [] [] rfl ?_
                          exact st_reckon_218 hT o (irm v3 v4) 0 (irm_R _ _) (Or.inl rfl)
                        · refine s_iconst o dX11_reckon_209 ?_
                          refine s_goto (tgt := 218) o dX11_reckon_210 (by decide) ?_
                          refine r_to [] [] rfl ?_
                          exact st_reckon_218 hT o 0 0 (r32 rfl) (Or.inl rfl)
                      · refine s_aload_n o dX11_reckon_173 rfl 2 rfl ?_
                        refine s_iconst o dX11_reckon_174 ?_
                        refine s_iload o dX11_reckon_175 0 rfl ?_
                        refine s_iconst o dX11_reckon_177 ?_
                        refine s_icmp_ne (tgt := 187) o dX11_reckon_178 (by decide) (hv4 _ rfl) (r32 rfl) ?_ ?_
                        · refine s_iload o dX11_reckon_187 1 rfl ?_
                          refine s_iload o dX11_reckon_189 0 rfl ?_
                          refine s_nz (fun z17 => ?_)
                          refine s_idiv o dX11_reckon_191 (hv4 _ rfl) z17 ?_
                          refine r_to [] [] rfl ?_
                          exact st_reckon_192 hT o (idv v3 v4) 0 (idv_R _ _) (Or.inl rfl)
                        · refine s_iload o dX11_reckon_181 1 rfl ?_
                          refine s_ineg o dX11_reckon_183 ?_
                          refine s_goto (tgt := 192) o dX11_reckon_184 (by decide) ?_
                          refine r_to [] [] rfl ?_
                          exact st_reckon_192 hT o (w32 (-v3)) 0 (w32_R _) (Or.inl rfl)
                    · refine s_aload_n o dX11_reckon_157 rfl 2 rfl ?_
                      refine s_iconst o dX11_reckon_158 ?_
                      refine s_iconst o dX11_reckon_159 ?_
                      refine s_cv (d := d + 0) (C := "LazyForgeModel") (As := [vI 2, vI 2]) (st := []) o (st_ends (mg Γ) d h hT 2 2 (r32 rfl) (r32 rfl)) mw_X11_ends rfl (Or.inl (lw_all_tbl q3238)) (lw_all_tbl qs126) (lw_all_tbl q3240) (fun t => rc_t o hT t) wt_0 rfl dX11_reckon_160 rfl (rs := fun _ => []) (fun _ => rfl) (fun _ _ => ?_)
                      refine s_goto (tgt := 293) o dX11_reckon_163 (by decide) ?_
                      exact s_vret o rfl dX11_reckon_293 (fun _ hh => hh)
                  · refine s_look (off := 237) o dX11_reckon_36 hl1 rfl (by simp [Op.lookupswitch.offset, Ne.symm e4, Ne.symm e5, Ne.symm e6, Ne.symm e9, Ne.symm e11, Ne.symm e13, Ne.symm e15, e4, e5, e6, e9, e11, e13, e15]) (tgt := 273) (by decide) ?_
                    refine s_aload_n o dX11_reckon_273 rfl 2 rfl ?_
                    refine s_iconst o dX11_reckon_274 ?_
                    refine s_iload o dX11_reckon_275 1 rfl ?_
                    refine s_iload o dX11_reckon_277 0 rfl ?_
                    refine s_icmp_ge (tgt := 286) o dX11_reckon_279 (by decide) (hv3 _ rfl) (hv4 _ rfl) ?_ ?_
                    · refine s_iconst o dX11_reckon_286 ?_
                      refine r_to [] [] rfl ?_
                      exact st_reckon_287 hT o 0 2 (Or.inl rfl) (r32 rfl)
                    · refine s_iconst o dX11_reckon_282 ?_
                      refine s_goto (tgt := 287) o dX11_reckon_283 (by decide) ?_
                      refine r_to [] [] rfl ?_
                      exact st_reckon_287 hT o 1 2 (Or.inr rfl) (r32 rfl)
    · refine r_to [(0, vA (mg Γ) 21)] [0] rfl ?_
      exact st_reckon_15 hT o
theorem dX11_choose_0 : decode cX11_choose 0 = .ok (.iconst 1, 1) := by decide +kernel
theorem dX11_choose_1 : decode cX11_choose 1 = .ok (.istore 4, 2) := by decide +kernel
theorem dX11_choose_3 : decode cX11_choose 3 = .ok (.iload 4, 2) := by decide +kernel
theorem dX11_choose_5 : decode cX11_choose 5 = .ok (.aload_n 0, 1) := by decide +kernel
theorem dX11_choose_6 : decode cX11_choose 6 = .ok (.getfield 128, 3) := by decide +kernel
theorem dX11_choose_9 : decode cX11_choose 9 = .ok (.iload_n 1, 1) := by decide +kernel
theorem dX11_choose_10 : decode cX11_choose 10 = .ok (.iaload, 1) := by decide +kernel
theorem dX11_choose_11 : decode cX11_choose 11 = .ok (.if_icmp .ge 244, 3) := by decide +kernel
theorem dX11_choose_14 : decode cX11_choose 14 = .ok (.aload_n 0, 1) := by decide +kernel
theorem dX11_choose_15 : decode cX11_choose 15 = .ok (.getfield 125, 3) := by decide +kernel
theorem dX11_choose_18 : decode cX11_choose 18 = .ok (.iload_n 1, 1) := by decide +kernel
theorem dX11_choose_19 : decode cX11_choose 19 = .ok (.iaload, 1) := by decide +kernel
theorem dX11_choose_20 : decode cX11_choose 20 = .ok (.iload 4, 2) := by decide +kernel
theorem dX11_choose_22 : decode cX11_choose 22 = .ok (.iadd, 1) := by decide +kernel
theorem dX11_choose_23 : decode cX11_choose 23 = .ok (.istore 5, 2) := by decide +kernel
theorem dX11_choose_25 : decode cX11_choose 25 = .ok (.lload_n 2, 1) := by decide +kernel
theorem dX11_choose_26 : decode cX11_choose 26 = .ok (.invokestatic 688, 3) := by decide +kernel
theorem dX11_choose_29 : decode cX11_choose 29 = .ok (.iconst 3, 1) := by decide +kernel
theorem dX11_choose_30 : decode cX11_choose 30 = .ok (.if_icmp .ne 38, 3) := by decide +kernel
theorem dX11_choose_33 : decode cX11_choose 33 = .ok (.aload_n 0, 1) := by decide +kernel
theorem dX11_choose_34 : decode cX11_choose 34 = .ok (.getfield 194, 3) := by decide +kernel
theorem dX11_choose_37 : decode cX11_choose 37 = .ok (.lload_n 2, 1) := by decide +kernel
theorem dX11_choose_38 : decode cX11_choose 38 = .ok (.invokestatic 679, 3) := by decide +kernel
theorem dX11_choose_41 : decode cX11_choose 41 = .ok (.iaload, 1) := by decide +kernel
theorem dX11_choose_42 : decode cX11_choose 42 = .ok (.ifCond .ne 26, 3) := by decide +kernel
theorem dX11_choose_45 : decode cX11_choose 45 = .ok (.aload_n 0, 1) := by decide +kernel
theorem dX11_choose_46 : decode cX11_choose 46 = .ok (.getfield 197, 3) := by decide +kernel
theorem dX11_choose_49 : decode cX11_choose 49 = .ok (.lload_n 2, 1) := by decide +kernel
theorem dX11_choose_50 : decode cX11_choose 50 = .ok (.invokestatic 679, 3) := by decide +kernel
theorem dX11_choose_53 : decode cX11_choose 53 = .ok (.iaload, 1) := by decide +kernel
theorem dX11_choose_54 : decode cX11_choose 54 = .ok (.aload_n 0, 1) := by decide +kernel
theorem dX11_choose_55 : decode cX11_choose 55 = .ok (.getfield 153, 3) := by decide +kernel
theorem dX11_choose_58 : decode cX11_choose 58 = .ok (.iload 5, 2) := by decide +kernel
theorem dX11_choose_60 : decode cX11_choose 60 = .ok (.iaload, 1) := by decide +kernel
theorem dX11_choose_61 : decode cX11_choose 61 = .ok (.if_icmp .ne 7, 3) := by decide +kernel
theorem dX11_choose_64 : decode cX11_choose 64 = .ok (.iconst 1, 1) := by decide +kernel
theorem dX11_choose_65 : decode cX11_choose 65 = .ok (.goto 4, 3) := by decide +kernel
theorem dX11_choose_68 : decode cX11_choose 68 = .ok (.iconst 0, 1) := by decide +kernel
theorem dX11_choose_69 : decode cX11_choose 69 = .ok (.istore 6, 2) := by decide +kernel
theorem dX11_choose_71 : decode cX11_choose 71 = .ok (.aload_n 0, 1) := by decide +kernel
theorem dX11_choose_72 : decode cX11_choose 72 = .ok (.getfield 150, 3) := by decide +kernel
theorem dX11_choose_75 : decode cX11_choose 75 = .ok (.iload 5, 2) := by decide +kernel
theorem dX11_choose_77 : decode cX11_choose 77 = .ok (.iaload, 1) := by decide +kernel
theorem dX11_choose_78 : decode cX11_choose 78 = .ok (.iconst 2, 1) := by decide +kernel
theorem dX11_choose_79 : decode cX11_choose 79 = .ok (.if_icmp .ne 7, 3) := by decide +kernel
theorem dX11_choose_82 : decode cX11_choose 82 = .ok (.iconst 1, 1) := by decide +kernel
theorem dX11_choose_83 : decode cX11_choose 83 = .ok (.goto 4, 3) := by decide +kernel
theorem dX11_choose_86 : decode cX11_choose 86 = .ok (.iconst 0, 1) := by decide +kernel
theorem dX11_choose_87 : decode cX11_choose 87 = .ok (.istore 7, 2) := by decide +kernel
theorem dX11_choose_89 : decode cX11_choose 89 = .ok (.aload_n 0, 1) := by decide +kernel
theorem dX11_choose_90 : decode cX11_choose 90 = .ok (.getfield 150, 3) := by decide +kernel
theorem dX11_choose_93 : decode cX11_choose 93 = .ok (.iload 5, 2) := by decide +kernel
theorem dX11_choose_95 : decode cX11_choose 95 = .ok (.iaload, 1) := by decide +kernel
theorem dX11_choose_96 : decode cX11_choose 96 = .ok (.ifCond .ne 44, 3) := by decide +kernel
theorem dX11_choose_99 : decode cX11_choose 99 = .ok (.aload_n 0, 1) := by decide +kernel
theorem dX11_choose_100 : decode cX11_choose 100 = .ok (.getfield 159, 3) := by decide +kernel
theorem dX11_choose_103 : decode cX11_choose 103 = .ok (.iload 5, 2) := by decide +kernel
theorem dX11_choose_105 : decode cX11_choose 105 = .ok (.iaload, 1) := by decide +kernel
theorem dX11_choose_106 : decode cX11_choose 106 = .ok (.ifCond .le 8, 3) := by decide +kernel
theorem dX11_choose_109 : decode cX11_choose 109 = .ok (.iload 6, 2) := by decide +kernel
theorem dX11_choose_111 : decode cX11_choose 111 = .ok (.goto 24, 3) := by decide +kernel
theorem dX11_choose_114 : decode cX11_choose 114 = .ok (.lload_n 2, 1) := by decide +kernel
theorem dX11_choose_115 : decode cX11_choose 115 = .ok (.iconst 2, 1) := by decide +kernel
theorem dX11_choose_116 : decode cX11_choose 116 = .ok (.aload_n 0, 1) := by decide +kernel
theorem dX11_choose_117 : decode cX11_choose 117 = .ok (.getfield 153, 3) := by decide +kernel
theorem dX11_choose_120 : decode cX11_choose 120 = .ok (.iload 5, 2) := by decide +kernel
theorem dX11_choose_122 : decode cX11_choose 122 = .ok (.iaload, 1) := by decide +kernel
theorem dX11_choose_123 : decode cX11_choose 123 = .ok (.invokestatic 650, 3) := by decide +kernel
theorem dX11_choose_126 : decode cX11_choose 126 = .ok (.lcmp, 1) := by decide +kernel
theorem dX11_choose_127 : decode cX11_choose 127 = .ok (.ifCond .ne 7, 3) := by decide +kernel
theorem dX11_choose_130 : decode cX11_choose 130 = .ok (.iconst 1, 1) := by decide +kernel
theorem dX11_choose_131 : decode cX11_choose 131 = .ok (.goto 4, 3) := by decide +kernel
theorem dX11_choose_134 : decode cX11_choose 134 = .ok (.iconst 0, 1) := by decide +kernel
theorem dX11_choose_135 : decode cX11_choose 135 = .ok (.istore 7, 2) := by decide +kernel
theorem dX11_choose_137 : decode cX11_choose 137 = .ok (.goto 37, 3) := by decide +kernel
theorem dX11_choose_140 : decode cX11_choose 140 = .ok (.aload_n 0, 1) := by decide +kernel
theorem dX11_choose_141 : decode cX11_choose 141 = .ok (.getfield 150, 3) := by decide +kernel
theorem dX11_choose_144 : decode cX11_choose 144 = .ok (.iload 5, 2) := by decide +kernel
theorem dX11_choose_146 : decode cX11_choose 146 = .ok (.iaload, 1) := by decide +kernel
theorem dX11_choose_147 : decode cX11_choose 147 = .ok (.iconst 1, 1) := by decide +kernel
theorem dX11_choose_148 : decode cX11_choose 148 = .ok (.if_icmp .ne 26, 3) := by decide +kernel
theorem dX11_choose_151 : decode cX11_choose 151 = .ok (.lload_n 2, 1) := by decide +kernel
theorem dX11_choose_152 : decode cX11_choose 152 = .ok (.iconst 0, 1) := by decide +kernel
theorem dX11_choose_153 : decode cX11_choose 153 = .ok (.aload_n 0, 1) := by decide +kernel
theorem dX11_choose_154 : decode cX11_choose 154 = .ok (.getfield 153, 3) := by decide +kernel
theorem dX11_choose_157 : decode cX11_choose 157 = .ok (.iload 5, 2) := by decide +kernel
theorem dX11_choose_159 : decode cX11_choose 159 = .ok (.iaload, 1) := by decide +kernel
theorem dX11_choose_160 : decode cX11_choose 160 = .ok (.invokestatic 650, 3) := by decide +kernel
theorem dX11_choose_163 : decode cX11_choose 163 = .ok (.lcmp, 1) := by decide +kernel
theorem dX11_choose_164 : decode cX11_choose 164 = .ok (.ifCond .ne 7, 3) := by decide +kernel
theorem dX11_choose_167 : decode cX11_choose 167 = .ok (.iconst 1, 1) := by decide +kernel
theorem dX11_choose_168 : decode cX11_choose 168 = .ok (.goto 4, 3) := by decide +kernel
theorem dX11_choose_171 : decode cX11_choose 171 = .ok (.iconst 0, 1) := by decide +kernel
theorem dX11_choose_172 : decode cX11_choose 172 = .ok (.istore 7, 2) := by decide +kernel
theorem dX11_choose_174 : decode cX11_choose 174 = .ok (.iload 7, 2) := by decide +kernel
theorem dX11_choose_176 : decode cX11_choose 176 = .ok (.ifCond .eq 73, 3) := by decide +kernel
theorem dX11_choose_179 : decode cX11_choose 179 = .ok (.iconst 0, 1) := by decide +kernel
theorem dX11_choose_180 : decode cX11_choose 180 = .ok (.istore 8, 2) := by decide +kernel
theorem dX11_choose_182 : decode cX11_choose 182 = .ok (.iload 8, 2) := by decide +kernel
theorem dX11_choose_184 : decode cX11_choose 184 = .ok (.aload_n 0, 1) := by decide +kernel
theorem dX11_choose_185 : decode cX11_choose 185 = .ok (.getfield 159, 3) := by decide +kernel
theorem dX11_choose_188 : decode cX11_choose 188 = .ok (.iload 5, 2) := by decide +kernel
theorem dX11_choose_190 : decode cX11_choose 190 = .ok (.iaload, 1) := by decide +kernel
theorem dX11_choose_191 : decode cX11_choose 191 = .ok (.if_icmp .ge 46, 3) := by decide +kernel
theorem dX11_choose_194 : decode cX11_choose 194 = .ok (.aload_n 0, 1) := by decide +kernel
theorem dX11_choose_195 : decode cX11_choose 195 = .ok (.getfield 233, 3) := by decide +kernel
theorem dX11_choose_198 : decode cX11_choose 198 = .ok (.aload_n 0, 1) := by decide +kernel
theorem dX11_choose_199 : decode cX11_choose 199 = .ok (.getfield 614, 3) := by decide +kernel
theorem dX11_choose_202 : decode cX11_choose 202 = .ok (.aload_n 0, 1) := by decide +kernel
theorem dX11_choose_203 : decode cX11_choose 203 = .ok (.getfield 156, 3) := by decide +kernel
theorem dX11_choose_206 : decode cX11_choose 206 = .ok (.iload 5, 2) := by decide +kernel
theorem dX11_choose_208 : decode cX11_choose 208 = .ok (.iaload, 1) := by decide +kernel
theorem dX11_choose_209 : decode cX11_choose 209 = .ok (.iadd, 1) := by decide +kernel
theorem dX11_choose_210 : decode cX11_choose 210 = .ok (.iload 8, 2) := by decide +kernel
theorem dX11_choose_212 : decode cX11_choose 212 = .ok (.iadd, 1) := by decide +kernel
theorem dX11_choose_213 : decode cX11_choose 213 = .ok (.aload_n 0, 1) := by decide +kernel
theorem dX11_choose_214 : decode cX11_choose 214 = .ok (.getfield 209, 3) := by decide +kernel
theorem dX11_choose_217 : decode cX11_choose 217 = .ok (.aload_n 0, 1) := by decide +kernel
theorem dX11_choose_218 : decode cX11_choose 218 = .ok (.getfield 203, 3) := by decide +kernel
theorem dX11_choose_221 : decode cX11_choose 221 = .ok (.lload_n 2, 1) := by decide +kernel
theorem dX11_choose_222 : decode cX11_choose 222 = .ok (.invokestatic 679, 3) := by decide +kernel
theorem dX11_choose_225 : decode cX11_choose 225 = .ok (.iaload, 1) := by decide +kernel
theorem dX11_choose_226 : decode cX11_choose 226 = .ok (.iload 8, 2) := by decide +kernel
theorem dX11_choose_228 : decode cX11_choose 228 = .ok (.iadd, 1) := by decide +kernel
theorem dX11_choose_229 : decode cX11_choose 229 = .ok (.laload, 1) := by decide +kernel
theorem dX11_choose_230 : decode cX11_choose 230 = .ok (.lastore, 1) := by decide +kernel
theorem dX11_choose_231 : decode cX11_choose 231 = .ok (.iinc 8 1, 3) := by decide +kernel
theorem dX11_choose_234 : decode cX11_choose 234 = .ok (.goto (-52), 3) := by decide +kernel
theorem dX11_choose_237 : decode cX11_choose 237 = .ok (.aload_n 0, 1) := by decide +kernel
theorem dX11_choose_238 : decode cX11_choose 238 = .ok (.aload_n 0, 1) := by decide +kernel
theorem dX11_choose_239 : decode cX11_choose 239 = .ok (.iload_n 1, 1) := by decide +kernel
theorem dX11_choose_240 : decode cX11_choose 240 = .ok (.iload 4, 2) := by decide +kernel
theorem dX11_choose_242 : decode cX11_choose 242 = .ok (.invokevirtual 545, 3) := by decide +kernel
theorem dX11_choose_245 : decode cX11_choose 245 = .ok (.invokevirtual 697, 3) := by decide +kernel
theorem dX11_choose_248 : decode cX11_choose 248 = .ok (.return_, 1) := by decide +kernel
theorem dX11_choose_249 : decode cX11_choose 249 = .ok (.iinc 4 1, 3) := by decide +kernel
theorem dX11_choose_252 : decode cX11_choose 252 = .ok (.goto (-249), 3) := by decide +kernel
theorem dX11_choose_255 : decode cX11_choose 255 = .ok (.aload_n 0, 1) := by decide +kernel
theorem dX11_choose_256 : decode cX11_choose 256 = .ok (.iconst 2, 1) := by decide +kernel
theorem dX11_choose_257 : decode cX11_choose 257 = .ok (.iconst 1, 1) := by decide +kernel
theorem dX11_choose_258 : decode cX11_choose 258 = .ok (.invokevirtual 629, 3) := by decide +kernel
theorem dX11_choose_261 : decode cX11_choose 261 = .ok (.return_, 1) := by decide +kernel
theorem mw_X11_choose : MW yX11_choose (Cond.code yX11_choose cX11_choose 9 (Option.none : Option Jvm.ClassFile.FieldType)) cX11_choose 9 (Option.none : Option Jvm.ClassFile.FieldType) 2 := ⟨rfl, ⟨(lw_all_tbl q3292), rfl, (lw_all_tbl q173)⟩, rfl, ⟨by decide, by decide⟩, by decide +kernel⟩
abbrev okt_choose_182 (x : Int × Int × Int × Int × Int) : Prop := R32 x.1 ∧ R64 x.2.1 ∧ R32 x.2.2.1 ∧ R32 x.2.2.2.1 ∧ R32 x.2.2.2.2
abbrev lvt_choose_182 (Γ : Gm) (x : Int × Int × Int × Int × Int) : List (Nat × Value) := [(0, vA (mg Γ) 21), (1, vI x.1), (2, vJ x.2.1), (4, vI x.2.2.1), (5, vI x.2.2.2.1), (8, vI x.2.2.2.2)]
noncomputable def t_choose_182b {A : Type} (k_237 : Int → Int → Mo TS A) (l1 : Int) (l2 : Int) (l4 : Int) (l5 : Int) (l8 : Int) : Mo TS ((Int × Int × Int × Int × Int) ⊕ A) :=
  bnd (rd 78 14000 l5) fun v1 =>
  if v1 ≤ l8 then
    lo (k_237 l1 l4)
  else
    bnd (gs 122) fun v2 =>
    bnd (rd 77 14000 l5) fun v3 =>
    bnd (t_of l2) fun v4 =>
    bnd (rd 95 4100 v4) fun v5 =>
    bnd (rd 99 4100 (w32 (v5 + l8))) fun v6 =>
    bnd (wr 124 193000 (w32 ((w32 (v2 + v3)) + l8)) v6) fun _ =>
    pr (.inl (l1, l2, l4, l5, (w32 (l8 + 1))))
theorem st_choose_182b {Γ : Gm} {h : CH} {d : Nat} (hT : HT h) (o : Ok Γ "LazyForgeModel" cX11_choose 9 (Option.none : Option Jvm.ClassFile.FieldType) (d + 1)) {A : Type} {K : A → TS → Prop} (k_237 : Int → Int → Mo TS A) (hk_237 : ∀ (l1 : Int) (l4 : Int), R32 l1 → R32 l4 → Sx Γ (fun t => (h, t)) K 237 [(0, vA (mg Γ) 21), (1, vI l1), (4, vI l4)] [] (k_237 l1 l4)) (l1 : Int) (l2 : Int) (l4 : Int) (l5 : Int) (l8 : Int) (hl1 : R32 l1) (hl2 : R64 l2) (hl4 : R32 l4) (hl5 : R32 l5) (hl8 : R32 l8) : Sx Γ (fun t => (h, t)) (KL Γ (fun t => (h, t)) okt_choose_182 K 182 (lvt_choose_182 Γ) []) 182 [(0, vA (mg Γ) 21), (1, vI l1), (2, vJ l2), (4, vI l4), (5, vI l5), (8, vI l8)] [] (t_choose_182b k_237 l1 l2 l4 l5 l8) := by
  unfold t_choose_182b
  refine s_iload o dX11_choose_182 5 rfl ?_
  refine s_aload_n o dX11_choose_184 rfl 0 rfl ?_
  refine s_tga (x := 71) o hT tf_branchCounts ta_branchCounts (lw_all_tbl q2582) dX11_choose_185 ?_
  refine s_iload o dX11_choose_188 4 rfl ?_
  refine r_tiald o hT tr_branchCounts hl5 dX11_choose_190 (fun v1 hv1 => ?_)
  refine s_icmp_ge (tgt := 237) o dX11_choose_191 (by decide) hl8 hv1 ?_ ?_
  · refine r_to [(0, vA (mg Γ) 21), (1, vI l1), (4, vI l4)] [0, 1, 3] rfl ?_
    exact s_lo (hk_237 l1 l4 hl1 hl4)
  · refine s_aload_n o dX11_choose_194 rfl 0 rfl ?_
    refine s_tga (x := 93) o hT tf_locals ta_locals (lw_all_tbl q2628) dX11_choose_195 ?_
    refine s_aload_n o dX11_choose_198 rfl 0 rfl ?_
    refine r_tgf vI rfl o hT tf_base tj_base (lw_all_tbl q2626) dX11_choose_199 (fun v2 hv2 => ?_)
    refine s_aload_n o dX11_choose_202 rfl 0 rfl ?_
    refine s_tga (x := 70) o hT tf_branchVariables ta_branchVariables (lw_all_tbl q2581) dX11_choose_203 ?_
    refine s_iload o dX11_choose_206 4 rfl ?_
    refine r_tiald o hT tr_branchVariables hl5 dX11_choose_208 (fun v3 hv3 => ?_)
    refine s_iadd o dX11_choose_209 ?_
    refine s_iload o dX11_choose_210 5 rfl ?_
    refine s_iadd o dX11_choose_212 ?_
    refine s_aload_n o dX11_choose_213 rfl 0 rfl ?_
    refine s_tga (x := 86) o hT tf_fields ta_fields (lw_all_tbl q2603) dX11_choose_214 ?_
    refine s_aload_n o dX11_choose_217 rfl 0 rfl ?_
    refine s_tga (x := 84) o hT tf_cellBegins ta_cellBegins (lw_all_tbl q2599) dX11_choose_218 ?_
    refine s_lload_n o dX11_choose_221 rfl 2 rfl ?_
    refine s_cs (d := d + 0) (As := [vJ l2]) (st := [vA (mg Γ) 84, vA (mg Γ) 86, vI (w32 ((w32 (v2 + v3)) + l8)), vA (mg Γ) 93]) o (st_of (mg Γ) d h l2 hl2) mw_X11_of rfl (Or.inl (lw_all_tbl q3261)) (lw_all_tbl q3262) (wt_A (wt_A (wt_I (wt_A wt_0)))) rfl dX11_choose_222 rfl (rs := fun r => [vI r, vA (mg Γ) 84, vA (mg Γ) 86, vI (w32 ((w32 (v2 + v3)) + l8)), vA (mg Γ) 93]) (fun _ => rfl) (fun v4 hv4 => ?_)
    refine r_tiald o hT tr_cellBegins (hv4 _ rfl) dX11_choose_225 (fun v5 hv5 => ?_)
    refine s_iload o dX11_choose_226 5 rfl ?_
    refine s_iadd o dX11_choose_228 ?_
    refine r_tlald o hT tr_fields (w32_R _) dX11_choose_229 (fun v6 hv6 => ?_)
    refine r_tlast o hT tr_locals (w32_R _) hv6 dX11_choose_230 ?_
    refine r_iinc (j := 5) o dX11_choose_231 rfl rfl [(0, vA (mg Γ) 21), (1, vI l1), (2, vJ l2), (4, vI l4), (5, vI l5)] [0, 1, 2, 3, 4] rfl ⟨(Nat.ne_of_beq_eq_false rfl), (fun _ => (vA_cat (mg Γ) 21)), ⟨(Nat.ne_of_beq_eq_false rfl), (fun _ => rfl), ⟨(Nat.ne_of_beq_eq_false rfl), (fun e => absurd e (Nat.ne_of_beq_eq_false rfl)), ⟨(Nat.ne_of_beq_eq_false rfl), (fun _ => rfl), ⟨(Nat.ne_of_beq_eq_false rfl), (fun _ => rfl), trivial⟩⟩⟩⟩⟩ ?_
    refine s_goto (tgt := 182) o dX11_choose_234 (by decide) ?_
    refine r_to [(0, vA (mg Γ) 21), (1, vI l1), (2, vJ l2), (4, vI l4), (5, vI l5), (8, vI (w32 (l8 + 1)))] [1, 2, 3, 4, 5, 0] rfl ?_
    exact s_back (⟨hl1, hl2, hl4, hl5, (w32_R _)⟩) rfl
noncomputable def t_choose_182 {A : Type} (k_237 : Int → Int → Mo TS A) (l1 : Int) (l2 : Int) (l4 : Int) (l5 : Int) (l8 : Int) : Mo TS A := Loop (fun x => t_choose_182b k_237 x.1 x.2.1 x.2.2.1 x.2.2.2.1 x.2.2.2.2) (l1, l2, l4, l5, l8)
theorem st_choose_182 {Γ : Gm} {h : CH} {d : Nat} (hT : HT h) (o : Ok Γ "LazyForgeModel" cX11_choose 9 (Option.none : Option Jvm.ClassFile.FieldType) (d + 1)) {A : Type} {K : A → TS → Prop} (k_237 : Int → Int → Mo TS A) (hk_237 : ∀ (l1 : Int) (l4 : Int), R32 l1 → R32 l4 → Sx Γ (fun t => (h, t)) K 237 [(0, vA (mg Γ) 21), (1, vI l1), (4, vI l4)] [] (k_237 l1 l4)) (l1 : Int) (l2 : Int) (l4 : Int) (l5 : Int) (l8 : Int) (hl1 : R32 l1) (hl2 : R64 l2) (hl4 : R32 l4) (hl5 : R32 l5) (hl8 : R32 l8) : Sx Γ (fun t => (h, t)) K 182 [(0, vA (mg Γ) 21), (1, vI l1), (2, vJ l2), (4, vI l4), (5, vI l5), (8, vI l8)] [] (t_choose_182 k_237 l1 l2 l4 l5 l8) :=
  s_loop okt_choose_182 (lvt_choose_182 Γ) (fun x hx => st_choose_182b hT o k_237 hk_237 x.1 x.2.1 x.2.2.1 x.2.2.2.1 x.2.2.2.2 hx.1 hx.2.1 hx.2.2.1 hx.2.2.2.1 hx.2.2.2.2) (x := (l1, l2, l4, l5, l8)) ⟨hl1, hl2, hl4, hl5, hl8⟩
abbrev okt_choose_3 (x : Int × Int × Int) : Prop := R32 x.1 ∧ R64 x.2.1 ∧ R32 x.2.2
abbrev lvt_choose_3 (Γ : Gm) (x : Int × Int × Int) : List (Nat × Value) := [(0, vA (mg Γ) 21), (1, vI x.1), (2, vJ x.2.1), (4, vI x.2.2)]
noncomputable def t_choose_174 {A : Type} (k_179 : Int → Int → Int → Int → Mo TS A) (k_255 : Mo TS A) (l1 : Int) (l2 : Int) (l4 : Int) (l5 : Int) (l7 : Int) : Mo TS ((Int × Int × Int) ⊕ A) :=
  if l7 = 0 then
    pr (.inl (l1, l2, (w32 (l4 + 1))))
  else
    lo (k_179 l1 l2 l4 l5)
theorem st_choose_174 {Γ : Gm} {h : CH} {d : Nat} (hT : HT h) (o : Ok Γ "LazyForgeModel" cX11_choose 9 (Option.none : Option Jvm.ClassFile.FieldType) (d + 1)) {A : Type} {K : A → TS → Prop}  (k_179 : Int → Int → Int → Int → Mo TS A) (k_255 : Mo TS A) (hk_179 : ∀ (l1 : Int) (l2 : Int) (l4 : Int) (l5 : Int), R32 l1 → R64 l2 → R32 l4 → R32 l5 → Sx Γ (fun t => (h, t)) K 179 [(0, vA (mg Γ) 21), (1, vI l1), (2, vJ l2), (4, vI l4), (5, vI l5)] [] (k_179 l1 l2 l4 l5)) (hk_255 : Sx Γ (fun t => (h, t)) K 255 [(0, vA (mg Γ) 21)] [] (k_255)) (l1 : Int) (l2 : Int) (l4 : Int) (l5 : Int) (l7 : Int) (hl1 : R32 l1) (hl2 : R64 l2) (hl4 : R32 l4) (hl5 : R32 l5) (hl7 : rg .boolean l7) : Sx Γ (fun t => (h, t)) (KL Γ (fun t => (h, t)) okt_choose_3 K 3 (lvt_choose_3 Γ) []) 174 [(0, vA (mg Γ) 21), (1, vI l1), (2, vJ l2), (4, vI l4), (5, vI l5), (7, vI l7)] [] (t_choose_174 k_179 k_255 l1 l2 l4 l5 l7) := by
  unfold t_choose_174
  refine s_iload o dX11_choose_174 5 rfl ?_
  refine s_if_eq (tgt := 249) o dX11_choose_176 (by decide) (rZ hl7) ?_ ?_
  · refine r_iinc (j := 3) o dX11_choose_249 rfl rfl [(0, vA (mg Γ) 21), (1, vI l1), (2, vJ l2), (5, vI l5), (7, vI l7)] [0, 1, 2, 4, 5] rfl ⟨(Nat.ne_of_beq_eq_false rfl), (fun _ => (vA_cat (mg Γ) 21)), ⟨(Nat.ne_of_beq_eq_false rfl), (fun _ => rfl), ⟨(Nat.ne_of_beq_eq_false rfl), (fun e => absurd e (Nat.ne_of_beq_eq_false rfl)), ⟨(Nat.ne_of_beq_eq_false rfl), (fun _ => rfl), ⟨(Nat.ne_of_beq_eq_false rfl), (fun _ => rfl), trivial⟩⟩⟩⟩⟩ ?_
    refine s_goto (tgt := 3) o dX11_choose_252 (by decide) ?_
    refine r_to [(0, vA (mg Γ) 21), (1, vI l1), (2, vJ l2), (4, vI (w32 (l4 + 1)))] [1, 2, 3, 0] rfl ?_
    exact s_back (⟨hl1, hl2, (w32_R _)⟩) rfl
  · refine r_to [(0, vA (mg Γ) 21), (1, vI l1), (2, vJ l2), (4, vI l4), (5, vI l5)] [0, 1, 2, 3, 4] rfl ?_
    exact s_lo (hk_179 l1 l2 l4 l5 hl1 hl2 hl4 hl5)
noncomputable def t_choose_172 {A : Type} (k_179 : Int → Int → Int → Int → Mo TS A) (k_255 : Mo TS A) (l1 : Int) (l2 : Int) (l4 : Int) (l5 : Int) (k0 : Int) : Mo TS ((Int × Int × Int) ⊕ A) :=
  t_choose_174 k_179 k_255 l1 l2 l4 l5 k0
theorem st_choose_172 {Γ : Gm} {h : CH} {d : Nat} (hT : HT h) (o : Ok Γ "LazyForgeModel" cX11_choose 9 (Option.none : Option Jvm.ClassFile.FieldType) (d + 1)) {A : Type} {K : A → TS → Prop}  (k_179 : Int → Int → Int → Int → Mo TS A) (k_255 : Mo TS A) (hk_179 : ∀ (l1 : Int) (l2 : Int) (l4 : Int) (l5 : Int), R32 l1 → R64 l2 → R32 l4 → R32 l5 → Sx Γ (fun t => (h, t)) K 179 [(0, vA (mg Γ) 21), (1, vI l1), (2, vJ l2), (4, vI l4), (5, vI l5)] [] (k_179 l1 l2 l4 l5)) (hk_255 : Sx Γ (fun t => (h, t)) K 255 [(0, vA (mg Γ) 21)] [] (k_255)) (l1 : Int) (l2 : Int) (l4 : Int) (l5 : Int) (k0 : Int) (hl1 : R32 l1) (hl2 : R64 l2) (hl4 : R32 l4) (hl5 : R32 l5) (hk0 : rg .boolean k0) : Sx Γ (fun t => (h, t)) (KL Γ (fun t => (h, t)) okt_choose_3 K 3 (lvt_choose_3 Γ) []) 172 [(0, vA (mg Γ) 21), (1, vI l1), (2, vJ l2), (4, vI l4), (5, vI l5)] [vI k0] (t_choose_172 k_179 k_255 l1 l2 l4 l5 k0) := by
  unfold t_choose_172
  refine r_istore o dX11_choose_172 rfl ⟨(Nat.ne_of_beq_eq_false rfl), (fun _ => (vA_cat (mg Γ) 21)), ⟨(Nat.ne_of_beq_eq_false rfl), (fun _ => rfl), ⟨(Nat.ne_of_beq_eq_false rfl), (fun e => absurd e (Nat.ne_of_beq_eq_false rfl)), ⟨(Nat.ne_of_beq_eq_false rfl), (fun _ => rfl), ⟨(Nat.ne_of_beq_eq_false rfl), (fun _ => rfl), trivial⟩⟩⟩⟩⟩ ?_
  refine r_to [(0, vA (mg Γ) 21), (1, vI l1), (2, vJ l2), (4, vI l4), (5, vI l5), (7, vI k0)] [1, 2, 3, 4, 5, 0] rfl ?_
  exact st_choose_174 hT o k_179 k_255 hk_179 hk_255 l1 l2 l4 l5 k0 hl1 hl2 hl4 hl5 hk0
noncomputable def t_choose_135 {A : Type} (k_179 : Int → Int → Int → Int → Mo TS A) (k_255 : Mo TS A) (l1 : Int) (l2 : Int) (l4 : Int) (l5 : Int) (k0 : Int) : Mo TS ((Int × Int × Int) ⊕ A) :=
  t_choose_174 k_179 k_255 l1 l2 l4 l5 k0
theorem st_choose_135 {Γ : Gm} {h : CH} {d : Nat} (hT : HT h) (o : Ok Γ "LazyForgeModel" cX11_choose 9 (Option.none : Option Jvm.ClassFile.FieldType) (d + 1)) {A : Type} {K : A → TS → Prop}  (k_179 : Int → Int → Int → Int → Mo TS A) (k_255 : Mo TS A) (hk_179 : ∀ (l1 : Int) (l2 : Int) (l4 : Int) (l5 : Int), R32 l1 → R64 l2 → R32 l4 → R32 l5 → Sx Γ (fun t => (h, t)) K 179 [(0, vA (mg Γ) 21), (1, vI l1), (2, vJ l2), (4, vI l4), (5, vI l5)] [] (k_179 l1 l2 l4 l5)) (hk_255 : Sx Γ (fun t => (h, t)) K 255 [(0, vA (mg Γ) 21)] [] (k_255)) (l1 : Int) (l2 : Int) (l4 : Int) (l5 : Int) (k0 : Int) (hl1 : R32 l1) (hl2 : R64 l2) (hl4 : R32 l4) (hl5 : R32 l5) (hk0 : rg .boolean k0) : Sx Γ (fun t => (h, t)) (KL Γ (fun t => (h, t)) okt_choose_3 K 3 (lvt_choose_3 Γ) []) 135 [(0, vA (mg Γ) 21), (1, vI l1), (2, vJ l2), (4, vI l4), (5, vI l5)] [vI k0] (t_choose_135 k_179 k_255 l1 l2 l4 l5 k0) := by
  unfold t_choose_135
  refine r_istore o dX11_choose_135 rfl ⟨(Nat.ne_of_beq_eq_false rfl), (fun _ => (vA_cat (mg Γ) 21)), ⟨(Nat.ne_of_beq_eq_false rfl), (fun _ => rfl), ⟨(Nat.ne_of_beq_eq_false rfl), (fun e => absurd e (Nat.ne_of_beq_eq_false rfl)), ⟨(Nat.ne_of_beq_eq_false rfl), (fun _ => rfl), ⟨(Nat.ne_of_beq_eq_false rfl), (fun _ => rfl), trivial⟩⟩⟩⟩⟩ ?_
  refine s_goto (tgt := 174) o dX11_choose_137 (by decide) ?_
  refine r_to [(0, vA (mg Γ) 21), (1, vI l1), (2, vJ l2), (4, vI l4), (5, vI l5), (7, vI k0)] [1, 2, 3, 4, 5, 0] rfl ?_
  exact st_choose_174 hT o k_179 k_255 hk_179 hk_255 l1 l2 l4 l5 k0 hl1 hl2 hl4 hl5 hk0
noncomputable def t_choose_87 {A : Type} (k_179 : Int → Int → Int → Int → Mo TS A) (k_255 : Mo TS A) (l1 : Int) (l2 : Int) (l4 : Int) (l5 : Int) (l6 : Int) (k0 : Int) : Mo TS ((Int × Int × Int) ⊕ A) :=
  bnd (rd 75 14000 l5) fun v1 =>
  if ¬ v1 = 0 then
    bnd (rd 75 14000 l5) fun v2 =>
    if ¬ v2 = 1 then
      t_choose_174 k_179 k_255 l1 l2 l4 l5 k0
    else
      bnd (rd 76 14000 l5) fun v3 =>
      bnd (t_value 0 v3) fun v4 =>
      if ¬ l2 = v4 then
        t_choose_172 k_179 k_255 l1 l2 l4 l5 0
      else
        t_choose_172 k_179 k_255 l1 l2 l4 l5 1
  else
    bnd (rd 78 14000 l5) fun v5 =>
    if v5 ≤ 0 then
      bnd (rd 76 14000 l5) fun v6 =>
      bnd (t_value 2 v6) fun v7 =>
      if ¬ l2 = v7 then
        t_choose_135 k_179 k_255 l1 l2 l4 l5 0
      else
        t_choose_135 k_179 k_255 l1 l2 l4 l5 1
    else
      t_choose_135 k_179 k_255 l1 l2 l4 l5 l6
theorem st_choose_87 {Γ : Gm} {h : CH} {d : Nat} (hT : HT h) (o : Ok Γ "LazyForgeModel" cX11_choose 9 (Option.none : Option Jvm.ClassFile.FieldType) (d + 1)) {A : Type} {K : A → TS → Prop}  (k_179 : Int → Int → Int → Int → Mo TS A) (k_255 : Mo TS A) (hk_179 : ∀ (l1 : Int) (l2 : Int) (l4 : Int) (l5 : Int), R32 l1 → R64 l2 → R32 l4 → R32 l5 → Sx Γ (fun t => (h, t)) K 179 [(0, vA (mg Γ) 21), (1, vI l1), (2, vJ l2), (4, vI l4), (5, vI l5)] [] (k_179 l1 l2 l4 l5)) (hk_255 : Sx Γ (fun t => (h, t)) K 255 [(0, vA (mg Γ) 21)] [] (k_255)) (l1 : Int) (l2 : Int) (l4 : Int) (l5 : Int) (l6 : Int) (k0 : Int) (hl1 : R32 l1) (hl2 : R64 l2) (hl4 : R32 l4) (hl5 : R32 l5) (hl6 : rg .boolean l6) (hk0 : rg .boolean k0) : Sx Γ (fun t => (h, t)) (KL Γ (fun t => (h, t)) okt_choose_3 K 3 (lvt_choose_3 Γ) []) 87 [(0, vA (mg Γ) 21), (1, vI l1), (2, vJ l2), (4, vI l4), (5, vI l5), (6, vI l6)] [vI k0] (t_choose_87 k_179 k_255 l1 l2 l4 l5 l6 k0) := by
  unfold t_choose_87
  refine r_istore o dX11_choose_87 rfl ⟨(Nat.ne_of_beq_eq_false rfl), (fun _ => (vA_cat (mg Γ) 21)), ⟨(Nat.ne_of_beq_eq_false rfl), (fun _ => rfl), ⟨(Nat.ne_of_beq_eq_false rfl), (fun e => absurd e (Nat.ne_of_beq_eq_false rfl)), ⟨(Nat.ne_of_beq_eq_false rfl), (fun _ => rfl), ⟨(Nat.ne_of_beq_eq_false rfl), (fun _ => rfl), ⟨(Nat.ne_of_beq_eq_false rfl), (fun _ => rfl), trivial⟩⟩⟩⟩⟩⟩ ?_
  refine s_aload_n o dX11_choose_89 rfl 1 rfl ?_
  refine s_tga (x := 68) o hT tf_branchSorts ta_branchSorts (lw_all_tbl q2579) dX11_choose_90 ?_
  refine s_iload o dX11_choose_93 5 rfl ?_
  refine r_tiald o hT tr_branchSorts hl5 dX11_choose_95 (fun v1 hv1 => ?_)
  refine s_if_ne (tgt := 140) o dX11_choose_96 (by decide) hv1 ?_ ?_
  · refine s_aload_n o dX11_choose_140 rfl 1 rfl ?_
    refine s_tga (x := 68) o hT tf_branchSorts ta_branchSorts (lw_all_tbl q2579) dX11_choose_141 ?_
    refine s_iload o dX11_choose_144 5 rfl ?_
    refine r_tiald o hT tr_branchSorts hl5 dX11_choose_146 (fun v2 hv2 => ?_)
    refine s_iconst o dX11_choose_147 ?_
    refine s_icmp_ne (tgt := 174) o dX11_choose_148 (by decide) hv2 (r32 rfl) ?_ ?_
    · refine r_to [(0, vA (mg Γ) 21), (1, vI l1), (2, vJ l2), (4, vI l4), (5, vI l5), (7, vI k0)] [1, 2, 3, 4, 5, 0] rfl ?_
      exact st_choose_174 hT o k_179 k_255 hk_179 hk_255 l1 l2 l4 l5 k0 hl1 hl2 hl4 hl5 hk0
    · refine s_lload_n o dX11_choose_151 rfl 3 rfl ?_
      refine s_iconst o dX11_choose_152 ?_
      refine s_aload_n o dX11_choose_153 rfl 1 rfl ?_
      refine s_tga (x := 69) o hT tf_branchValues ta_branchValues (lw_all_tbl q2580) dX11_choose_154 ?_
      refine s_iload o dX11_choose_157 5 rfl ?_
      refine r_tiald o hT tr_branchValues hl5 dX11_choose_159 (fun v3 hv3 => ?_)
      refine s_cs (d := d + 0) (As := [vI 0, vI v3]) (st := [vJ l2]) o (st_value (mg Γ) d h 0 v3 (r32 rfl) hv3) mw_X11_value rfl (Or.inl (lw_all_tbl q3242)) (lw_all_tbl q3243) (wt_J wt_0) rfl dX11_choose_160 rfl (rs := fun r => [vJ r, vJ l2]) (fun _ => rfl) (fun v4 hv4 => ?_)
      refine s_lcmp_ne (tgt := 171) o dX11_choose_163 dX11_choose_164 (by decide) hl2 (hv4 _ rfl) ?_ ?_
      · refine s_iconst o dX11_choose_171 ?_
        refine r_to [(0, vA (mg Γ) 21), (1, vI l1), (2, vJ l2), (4, vI l4), (5, vI l5)] [1, 2, 3, 4, 5] rfl ?_
        exact st_choose_172 hT o k_179 k_255 hk_179 hk_255 l1 l2 l4 l5 0 hl1 hl2 hl4 hl5 (Or.inl rfl)
      · refine s_iconst o dX11_choose_167 ?_
        refine s_goto (tgt := 172) o dX11_choose_168 (by decide) ?_
        refine r_to [(0, vA (mg Γ) 21), (1, vI l1), (2, vJ l2), (4, vI l4), (5, vI l5)] [1, 2, 3, 4, 5] rfl ?_
        exact st_choose_172 hT o k_179 k_255 hk_179 hk_255 l1 l2 l4 l5 1 hl1 hl2 hl4 hl5 (Or.inr rfl)
  · refine s_aload_n o dX11_choose_99 rfl 1 rfl ?_
    refine s_tga (x := 71) o hT tf_branchCounts ta_branchCounts (lw_all_tbl q2582) dX11_choose_100 ?_
    refine s_iload o dX11_choose_103 5 rfl ?_
    refine r_tiald o hT tr_branchCounts hl5 dX11_choose_105 (fun v5 hv5 => ?_)
    refine s_if_le (tgt := 114) o dX11_choose_106 (by decide) hv5 ?_ ?_
    · refine s_lload_n o dX11_choose_114 rfl 3 rfl ?_
      refine s_iconst o dX11_choose_115 ?_
      refine s_aload_n o dX11_choose_116 rfl 1 rfl ?_
      refine s_tga (x := 69) o hT tf_branchValues ta_branchValues (lw_all_tbl q2580) dX11_choose_117 ?_
      refine s_iload o dX11_choose_120 5 rfl ?_
      refine r_tiald o hT tr_branchValues hl5 dX11_choose_122 (fun v6 hv6 => ?_)
      refine s_cs (d := d + 0) (As := [vI 2, vI v6]) (st := [vJ l2]) o (st_value (mg Γ) d h 2 v6 (r32 rfl) hv6) mw_X11_value rfl (Or.inl (lw_all_tbl q3242)) (lw_all_tbl q3243) (wt_J wt_0) rfl dX11_choose_123 rfl (rs := fun r => [vJ r, vJ l2]) (fun _ => rfl) (fun v7 hv7 => ?_)
      refine s_lcmp_ne (tgt := 134) o dX11_choose_126 dX11_choose_127 (by decide) hl2 (hv7 _ rfl) ?_ ?_
      · refine s_iconst o dX11_choose_134 ?_
        refine r_to [(0, vA (mg Γ) 21), (1, vI l1), (2, vJ l2), (4, vI l4), (5, vI l5)] [1, 2, 3, 4, 5] rfl ?_
        exact st_choose_135 hT o k_179 k_255 hk_179 hk_255 l1 l2 l4 l5 0 hl1 hl2 hl4 hl5 (Or.inl rfl)
      · refine s_iconst o dX11_choose_130 ?_
        refine s_goto (tgt := 135) o dX11_choose_131 (by decide) ?_
        refine r_to [(0, vA (mg Γ) 21), (1, vI l1), (2, vJ l2), (4, vI l4), (5, vI l5)] [1, 2, 3, 4, 5] rfl ?_
        exact st_choose_135 hT o k_179 k_255 hk_179 hk_255 l1 l2 l4 l5 1 hl1 hl2 hl4 hl5 (Or.inr rfl)
    · refine s_iload o dX11_choose_109 6 rfl ?_
      refine s_goto (tgt := 135) o dX11_choose_111 (by decide) ?_
      refine r_to [(0, vA (mg Γ) 21), (1, vI l1), (2, vJ l2), (4, vI l4), (5, vI l5)] [1, 2, 3, 4, 5] rfl ?_
      exact st_choose_135 hT o k_179 k_255 hk_179 hk_255 l1 l2 l4 l5 l6 hl1 hl2 hl4 hl5 hl6
noncomputable def t_choose_69 {A : Type} (k_179 : Int → Int → Int → Int → Mo TS A) (k_255 : Mo TS A) (l1 : Int) (l2 : Int) (l4 : Int) (l5 : Int) (k0 : Int) : Mo TS ((Int × Int × Int) ⊕ A) :=
  bnd (rd 75 14000 l5) fun v1 =>
  if ¬ v1 = 2 then
    t_choose_87 k_179 k_255 l1 l2 l4 l5 k0 0
  else
    t_choose_87 k_179 k_255 l1 l2 l4 l5 k0 1
theorem st_choose_69 {Γ : Gm} {h : CH} {d : Nat} (hT : HT h) (o : Ok Γ "LazyForgeModel" cX11_choose 9 (Option.none : Option Jvm.ClassFile.FieldType) (d + 1)) {A : Type} {K : A → TS → Prop}  (k_179 : Int → Int → Int → Int → Mo TS A) (k_255 : Mo TS A) (hk_179 : ∀ (l1 : Int) (l2 : Int) (l4 : Int) (l5 : Int), R32 l1 → R64 l2 → R32 l4 → R32 l5 → Sx Γ (fun t => (h, t)) K 179 [(0, vA (mg Γ) 21), (1, vI l1), (2, vJ l2), (4, vI l4), (5, vI l5)] [] (k_179 l1 l2 l4 l5)) (hk_255 : Sx Γ (fun t => (h, t)) K 255 [(0, vA (mg Γ) 21)] [] (k_255)) (l1 : Int) (l2 : Int) (l4 : Int) (l5 : Int) (k0 : Int) (hl1 : R32 l1) (hl2 : R64 l2) (hl4 : R32 l4) (hl5 : R32 l5) (hk0 : rg .boolean k0) : Sx Γ (fun t => (h, t)) (KL Γ (fun t => (h, t)) okt_choose_3 K 3 (lvt_choose_3 Γ) []) 69 [(0, vA (mg Γ) 21), (1, vI l1), (2, vJ l2), (4, vI l4), (5, vI l5)] [vI k0] (t_choose_69 k_179 k_255 l1 l2 l4 l5 k0) := by
  unfold t_choose_69
  refine r_istore o dX11_choose_69 rfl ⟨(Nat.ne_of_beq_eq_false rfl), (fun _ => (vA_cat (mg Γ) 21)), ⟨(Nat.ne_of_beq_eq_false rfl), (fun _ => rfl), ⟨(Nat.ne_of_beq_eq_false rfl), (fun e => absurd e (Nat.ne_of_beq_eq_false rfl)), ⟨(Nat.ne_of_beq_eq_false rfl), (fun _ => rfl), ⟨(Nat.ne_of_beq_eq_false rfl), (fun _ => rfl), trivial⟩⟩⟩⟩⟩ ?_
  refine s_aload_n o dX11_choose_71 rfl 1 rfl ?_
  refine s_tga (x := 68) o hT tf_branchSorts ta_branchSorts (lw_all_tbl q2579) dX11_choose_72 ?_
  refine s_iload o dX11_choose_75 5 rfl ?_
  refine r_tiald o hT tr_branchSorts hl5 dX11_choose_77 (fun v1 hv1 => ?_)
  refine s_iconst o dX11_choose_78 ?_
  refine s_icmp_ne (tgt := 86) o dX11_choose_79 (by decide) hv1 (r32 rfl) ?_ ?_
  · refine s_iconst o dX11_choose_86 ?_
    refine r_to [(0, vA (mg Γ) 21), (1, vI l1), (2, vJ l2), (4, vI l4), (5, vI l5), (6, vI k0)] [1, 2, 3, 4, 5, 0] rfl ?_
    exact st_choose_87 hT o k_179 k_255 hk_179 hk_255 l1 l2 l4 l5 k0 0 hl1 hl2 hl4 hl5 hk0 (Or.inl rfl)
  · refine s_iconst o dX11_choose_82 ?_
    refine s_goto (tgt := 87) o dX11_choose_83 (by decide) ?_
    refine r_to [(0, vA (mg Γ) 21), (1, vI l1), (2, vJ l2), (4, vI l4), (5, vI l5), (6, vI k0)] [1, 2, 3, 4, 5, 0] rfl ?_
    exact st_choose_87 hT o k_179 k_255 hk_179 hk_255 l1 l2 l4 l5 k0 1 hl1 hl2 hl4 hl5 hk0 (Or.inr rfl)
noncomputable def t_choose_68 {A : Type} (k_179 : Int → Int → Int → Int → Mo TS A) (k_255 : Mo TS A) (l1 : Int) (l2 : Int) (l4 : Int) (l5 : Int) : Mo TS ((Int × Int × Int) ⊕ A) :=
  t_choose_69 k_179 k_255 l1 l2 l4 l5 0
theorem st_choose_68 {Γ : Gm} {h : CH} {d : Nat} (hT : HT h) (o : Ok Γ "LazyForgeModel" cX11_choose 9 (Option.none : Option Jvm.ClassFile.FieldType) (d + 1)) {A : Type} {K : A → TS → Prop}  (k_179 : Int → Int → Int → Int → Mo TS A) (k_255 : Mo TS A) (hk_179 : ∀ (l1 : Int) (l2 : Int) (l4 : Int) (l5 : Int), R32 l1 → R64 l2 → R32 l4 → R32 l5 → Sx Γ (fun t => (h, t)) K 179 [(0, vA (mg Γ) 21), (1, vI l1), (2, vJ l2), (4, vI l4), (5, vI l5)] [] (k_179 l1 l2 l4 l5)) (hk_255 : Sx Γ (fun t => (h, t)) K 255 [(0, vA (mg Γ) 21)] [] (k_255)) (l1 : Int) (l2 : Int) (l4 : Int) (l5 : Int) (hl1 : R32 l1) (hl2 : R64 l2) (hl4 : R32 l4) (hl5 : R32 l5) : Sx Γ (fun t => (h, t)) (KL Γ (fun t => (h, t)) okt_choose_3 K 3 (lvt_choose_3 Γ) []) 68 [(0, vA (mg Γ) 21), (1, vI l1), (2, vJ l2), (4, vI l4), (5, vI l5)] [] (t_choose_68 k_179 k_255 l1 l2 l4 l5) := by
  unfold t_choose_68
  refine s_iconst o dX11_choose_68 ?_
  exact st_choose_69 hT o k_179 k_255 hk_179 hk_255 l1 l2 l4 l5 0 hl1 hl2 hl4 hl5 (Or.inl rfl)
noncomputable def t_choose_3b {A : Type} (k_179 : Int → Int → Int → Int → Mo TS A) (k_255 : Mo TS A) (l1 : Int) (l2 : Int) (l4 : Int) : Mo TS ((Int × Int × Int) ⊕ A) :=
  bnd (rd 67 7000 l1) fun v1 =>
  if v1 ≤ l4 then
    lo k_255
  else
    bnd (rd 66 7000 l1) fun v2 =>
    bnd (t_kindOf l2) fun v3 =>
    if ¬ v3 = 3 then
      t_choose_68 k_179 k_255 l1 l2 l4 (w32 (v2 + l4))
    else
      bnd (t_of l2) fun v4 =>
      bnd (rd 92 4100 v4) fun v5 =>
      if ¬ v5 = 0 then
        t_choose_68 k_179 k_255 l1 l2 l4 (w32 (v2 + l4))
      else
        bnd (t_of l2) fun v6 =>
        bnd (rd 93 4100 v6) fun v7 =>
        bnd (rd 76 14000 (w32 (v2 + l4))) fun v8 =>
        if ¬ v7 = v8 then
          t_choose_68 k_179 k_255 l1 l2 l4 (w32 (v2 + l4))
        else
          t_choose_69 k_179 k_255 l1 l2 l4 (w32 (v2 + l4)) 1
theorem st_choose_3b {Γ : Gm} {h : CH} {d : Nat} (hT : HT h) (o : Ok Γ "LazyForgeModel" cX11_choose 9 (Option.none : Option Jvm.ClassFile.FieldType) (d + 1)) {A : Type} {K : A → TS → Prop} (k_179 : Int → Int → Int → Int → Mo TS A) (k_255 : Mo TS A) (hk_179 : ∀ (l1 : Int) (l2 : Int) (l4 : Int) (l5 : Int), R32 l1 → R64 l2 → R32 l4 → R32 l5 → Sx Γ (fun t => (h, t)) K 179 [(0, vA (mg Γ) 21), (1, vI l1), (2, vJ l2), (4, vI l4), (5, vI l5)] [] (k_179 l1 l2 l4 l5)) (hk_255 : Sx Γ (fun t => (h, t)) K 255 [(0, vA (mg Γ) 21)] [] (k_255)) (l1 : Int) (l2 : Int) (l4 : Int) (hl1 : R32 l1) (hl2 : R64 l2) (hl4 : R32 l4) : Sx Γ (fun t => (h, t)) (KL Γ (fun t => (h, t)) okt_choose_3 K 3 (lvt_choose_3 Γ) []) 3 [(0, vA (mg Γ) 21), (1, vI l1), (2, vJ l2), (4, vI l4)] [] (t_choose_3b k_179 k_255 l1 l2 l4) := by
  unfold t_choose_3b
  refine s_iload o dX11_choose_3 3 rfl ?_
  refine s_aload_n o dX11_choose_5 rfl 0 rfl ?_
  refine s_tga (x := 61) o hT tf_liftCounts ta_liftCounts (lw_all_tbl q2571) dX11_choose_6 ?_
  refine s_iload_n o dX11_choose_9 rfl 1 rfl ?_
  refine r_tiald o hT tr_liftCounts hl1 dX11_choose_10 (fun v1 hv1 => ?_)
  refine s_icmp_ge (tgt := 255) o dX11_choose_11 (by decide) hl4 hv1 ?_ ?_
  · refine r_to [(0, vA (mg Γ) 21)] [0] rfl ?_
    exact s_lo hk_255
  · refine s_aload_n o dX11_choose_14 rfl 0 rfl ?_
    refine s_tga (x := 60) o hT tf_liftBegins ta_liftBegins (lw_all_tbl q2570) dX11_choose_15 ?_
    refine s_iload_n o dX11_choose_18 rfl 1 rfl ?_
    refine r_tiald o hT tr_liftBegins hl1 dX11_choose_19 (fun v2 hv2 => ?_)
    refine s_iload o dX11_choose_20 3 rfl ?_
    refine s_iadd o dX11_choose_22 ?_
    refine r_istore o dX11_choose_23 rfl ⟨(Nat.ne_of_beq_eq_false rfl), (fun _ => (vA_cat (mg Γ) 21)), ⟨(Nat.ne_of_beq_eq_false rfl), (fun _ => rfl), ⟨(Nat.ne_of_beq_eq_false rfl), (fun e => absurd e (Nat.ne_of_beq_eq_false rfl)), ⟨(Nat.ne_of_beq_eq_false rfl), (fun _ => rfl), trivial⟩⟩⟩⟩ ?_
    refine s_lload_n o dX11_choose_25 rfl 3 rfl ?_
    refine s_cs (d := d + 0) (As := [vJ l2]) (st := []) o (st_kindOf (mg Γ) d h l2 hl2) mw_X11_kindOf rfl (Or.inl (lw_all_tbl q3254)) (lw_all_tbl q3255) wt_0 rfl dX11_choose_26 rfl (rs := fun r => [vI r]) (fun _ => rfl) (fun v3 hv3 => ?_)
    refine s_iconst o dX11_choose_29 ?_
    refine s_icmp_ne (tgt := 68) o dX11_choose_30 (by decide) (hv3 _ rfl) (r32 rfl) ?_ ?_
    · refine r_to [(0, vA (mg Γ) 21), (1, vI l1), (2, vJ l2), (4, vI l4), (5, vI (w32 (v2 + l4)))] [1, 2, 3, 4, 0] rfl ?_
      exact st_choose_68 hT o k_179 k_255 hk_179 hk_255 l1 l2 l4 (w32 (v2 + l4)) hl1 hl2 hl4 (w32_R _)
    · refine s_aload_n o dX11_choose_33 rfl 1 rfl ?_
      refine s_tga (x := 81) o hT tf_cellSorts ta_cellSorts (lw_all_tbl q2596) dX11_choose_34 ?_
      refine s_lload_n o dX11_choose_37 rfl 3 rfl ?_
      refine s_cs (d := d + 0) (As := [vJ l2]) (st := [vA (mg Γ) 81]) o (st_of (mg Γ) d h l2 hl2) mw_X11_of rfl (Or.inl (lw_all_tbl q3261)) (lw_all_tbl q3262) (wt_A wt_0) rfl dX11_choose_38 rfl (rs := fun r => [vI r, vA (mg Γ) 81]) (fun _ => rfl) (fun v4 hv4 => ?_)
      refine r_tiald o hT tr_cellSorts (hv4 _ rfl) dX11_choose_41 (fun v5 hv5 => ?_)
      refine s_if_ne (tgt := 68) o dX11_choose_42 (by decide) hv5 ?_ ?_
      · refine r_to [(0, vA (mg Γ) 21), (1, vI l1), (2, vJ l2), (4, vI l4), (5, vI (w32 (v2 + l4)))] [1, 2, 3, 4, 0] rfl ?_
        exact st_choose_68 hT o k_179 k_255 hk_179 hk_255 l1 l2 l4 (w32 (v2 + l4)) hl1 hl2 hl4 (w32_R _)
      · refine s_aload_n o dX11_choose_45 rfl 1 rfl ?_
        refine s_tga (x := 82) o hT tf_cellValues ta_cellValues (lw_all_tbl q2597) dX11_choose_46 ?_
        refine s_lload_n o dX11_choose_49 rfl 3 rfl ?_
        refine s_cs (d := d + 0) (As := [vJ l2]) (st := [vA (mg Γ) 82]) o (st_of (mg Γ) d h l2 hl2) mw_X11_of rfl (Or.inl (lw_all_tbl q3261)) (lw_all_tbl q3262) (wt_A wt_0) rfl dX11_choose_50 rfl (rs := fun r => [vI r, vA (mg Γ) 82]) (fun _ => rfl) (fun v6 hv6 => ?_)
        refine r_tiald o hT tr_cellValues (hv6 _ rfl) dX11_choose_53 (fun v7 hv7 => ?_)
        refine s_aload_n o dX11_choose_54 rfl 1 rfl ?_
        refine s_tga (x := 69) o hT tf_branchValues ta_branchValues (lw_all_tbl q2580) dX11_choose_55 ?_
        refine s_iload o dX11_choose_58 0 rfl ?_
        refine r_tiald o hT tr_branchValues (w32_R _) dX11_choose_60 (fun v8 hv8 => ?_)
        refine s_icmp_ne (tgt := 68) o dX11_choose_61 (by decide) hv7 hv8 ?_ ?_
        · refine r_to [(0, vA (mg Γ) 21), (1, vI l1), (2, vJ l2), (4, vI l4), (5, vI (w32 (v2 + l4)))] [1, 2, 3, 4, 0] rfl ?_
          exact st_choose_68 hT o k_179 k_255 hk_179 hk_255 l1 l2 l4 (w32 (v2 + l4)) hl1 hl2 hl4 (w32_R _)
        · refine s_iconst o dX11_choose_64 ?_
          refine s_goto (tgt := 69) o dX11_choose_65 (by decide) ?_
          refine r_to [(0, vA (mg Γ) 21), (1, vI l1), (2, vJ l2), (4, vI l4), (5, vI (w32 (v2 + l4)))] [1, 2, 3, 4, 0] rfl ?_
          exact st_choose_69 hT o k_179 k_255 hk_179 hk_255 l1 l2 l4 (w32 (v2 + l4)) 1 hl1 hl2 hl4 (w32_R _) (Or.inr rfl)
noncomputable def t_choose_3 {A : Type} (k_179 : Int → Int → Int → Int → Mo TS A) (k_255 : Mo TS A) (l1 : Int) (l2 : Int) (l4 : Int) : Mo TS A := Loop (fun x => t_choose_3b k_179 k_255 x.1 x.2.1 x.2.2) (l1, l2, l4)
theorem st_choose_3 {Γ : Gm} {h : CH} {d : Nat} (hT : HT h) (o : Ok Γ "LazyForgeModel" cX11_choose 9 (Option.none : Option Jvm.ClassFile.FieldType) (d + 1)) {A : Type} {K : A → TS → Prop} (k_179 : Int → Int → Int → Int → Mo TS A) (k_255 : Mo TS A) (hk_179 : ∀ (l1 : Int) (l2 : Int) (l4 : Int) (l5 : Int), R32 l1 → R64 l2 → R32 l4 → R32 l5 → Sx Γ (fun t => (h, t)) K 179 [(0, vA (mg Γ) 21), (1, vI l1), (2, vJ l2), (4, vI l4), (5, vI l5)] [] (k_179 l1 l2 l4 l5)) (hk_255 : Sx Γ (fun t => (h, t)) K 255 [(0, vA (mg Γ) 21)] [] (k_255)) (l1 : Int) (l2 : Int) (l4 : Int) (hl1 : R32 l1) (hl2 : R64 l2) (hl4 : R32 l4) : Sx Γ (fun t => (h, t)) K 3 [(0, vA (mg Γ) 21), (1, vI l1), (2, vJ l2), (4, vI l4)] [] (t_choose_3 k_179 k_255 l1 l2 l4) :=
  s_loop okt_choose_3 (lvt_choose_3 Γ) (fun x hx => st_choose_3b hT o k_179 k_255 hk_179 hk_255 x.1 x.2.1 x.2.2 hx.1 hx.2.1 hx.2.2) (x := (l1, l2, l4)) ⟨hl1, hl2, hl4⟩
noncomputable def t_choose (l1 : Int) (l2 : Int) : Mo TS Int :=
  t_choose_3
    (fun v1 v2 v3 v4 => t_choose_182
    (fun v5 v6 => bnd (t_child v5 v6) fun v7 =>
  bnd (t_evaluate v7) fun _ =>
  pr 0) v1 v2 v3 v4 0)
    (bnd (t_ends 2 1) fun _ =>
  pr 0) l1 l2 1
theorem st_choose (g : gC) (d : Nat) (h : CH) (hT : HT h) (l1 : Int) (l2 : Int) (hl1 : R32 l1) (hl2 : R64 l2) : SF g yX11_choose (Cond.code yX11_choose cX11_choose 9 (Option.none : Option Jvm.ClassFile.FieldType)) (Option.none : Option Jvm.ClassFile.FieldType) (d + 1) [vA g 21, vI l1, vJ l2] (fun t => (h, t)) (t_choose l1 l2) := by
  refine SF.of (lv := [(0, vA g 21), (1, vI l1), (2, vJ l2)]) (by decide) (wt_A (wt_I (wt_J wt_0))) rfl (by simp only [la_A, la_I, la_J, la_0]) (fun Γ hg hnm o => ?_)
  subst hg
  have o : Ok Γ "LazyForgeModel" cX11_choose 9 (Option.none : Option Jvm.ClassFile.FieldType) (d + 1) := o
  unfold t_choose
  refine s_iconst o dX11_choose_0 ?_
  refine r_istore o dX11_choose_1 rfl ⟨(Nat.ne_of_beq_eq_false rfl), (fun _ => (vA_cat (mg Γ) 21)), ⟨(Nat.ne_of_beq_eq_false rfl), (fun _ => rfl), ⟨(Nat.ne_of_beq_eq_false rfl), (fun e => absurd e (Nat.ne_of_beq_eq_false rfl)), trivial⟩⟩⟩ ?_
  refine r_to [(0, vA (mg Γ) 21), (1, vI l1), (2, vJ l2), (4, vI 1)] [1, 2, 3, 0] rfl ?_
  refine st_choose_3 hT o _ _ ?_ ?_ l1 l2 1 hl1 hl2 (r32 rfl)
  · intro v1 v2 v3 v4 hv1 hv2 hv3 hv4
    refine s_iconst o dX11_choose_179 ?_
    refine r_istore o dX11_choose_180 rfl ⟨(Nat.ne_of_beq_eq_false rfl), (fun _ => (vA_cat (mg Γ) 21)), ⟨(Nat.ne_of_beq_eq_false rfl), (fun _ => rfl), ⟨(Nat.ne_of_beq_eq_false rfl), (fun e => absurd e (Nat.ne_of_beq_eq_false rfl)), ⟨(Nat.ne_of_beq_eq_false rfl), (fun _ => rfl), ⟨(Nat.ne_of_beq_eq_false rfl), (fun _ => rfl), trivial⟩⟩⟩⟩⟩ ?_
    refine r_to [(0, vA (mg Γ) 21), (1, vI v1), (2, vJ v2), (4, vI v3), (5, vI v4), (8, vI 0)] [1, 2, 3, 4, 5, 0] rfl ?_
    refine st_choose_182 hT o _ ?_ v1 v2 v3 v4 0 hv1 hv2 hv3 hv4 (r32 rfl)
    · intro v5 v6 hv5 hv6
      refine s_aload_n o dX11_choose_237 rfl 0 rfl ?_
      refine s_aload_n o dX11_choose_238 rfl 0 rfl ?_
      refine s_iload_n o dX11_choose_239 rfl 1 rfl ?_
      refine s_iload o dX11_choose_240 2 rfl ?_
      refine s_cv (d := d + 0) (C := "LazyForgeModel") (As := [vI v5, vI v6]) (st := [vA (mg Γ) 21]) o (st_child (mg Γ) d h hT v5 v6 hv5 hv6) mw_X11_child rfl (Or.inl (lw_all_tbl q3189)) (lw_all_tbl qs115) (lw_all_tbl q3191) (fun t => rc_t o hT t) (wt_A wt_0) rfl dX11_choose_242 rfl (rs := fun r => [vI r, vA (mg Γ) 21]) (fun _ => rfl) (fun v7 hv7 => ?_)
      refine s_cv (d := d + 0) (C := "LazyForgeModel") (As := [vI v7]) (st := []) o (st_evaluate (mg Γ) d h hT v7 (hv7 _ rfl)) mw_X11_evaluate rfl (Or.inl (lw_all_tbl q3272)) (lw_all_tbl qs132) (lw_all_tbl q3274) (fun t => rc_t o hT t) wt_0 rfl dX11_choose_245 rfl (rs := fun _ => []) (fun _ => rfl) (fun _ _ => ?_)
      exact s_vret o rfl dX11_choose_248 (fun _ hh => hh)
  · refine s_aload_n o dX11_choose_255 rfl 0 rfl ?_
    refine s_iconst o dX11_choose_256 ?_
    refine s_iconst o dX11_choose_257 ?_
    refine s_cv (d := d + 0) (C := "LazyForgeModel") (As := [vI 2, vI 1]) (st := []) o (st_ends (mg Γ) d h hT 2 1 (r32 rfl) (r32 rfl)) mw_X11_ends rfl (Or.inl (lw_all_tbl q3238)) (lw_all_tbl qs126) (lw_all_tbl q3240) (fun t => rc_t o hT t) wt_0 rfl dX11_choose_258 rfl (rs := fun _ => []) (fun _ => rfl) (fun _ _ => ?_)
    exact s_vret o rfl dX11_choose_261 (fun _ hh => hh)
theorem dX11_plain_0 : decode cX11_plain 0 = .ok (.aload_n 0, 1) := by decide +kernel
theorem dX11_plain_1 : decode cX11_plain 1 = .ok (.getfield 119, 3) := by decide +kernel
theorem dX11_plain_4 : decode cX11_plain 4 = .ok (.iload_n 1, 1) := by decide +kernel
theorem dX11_plain_5 : decode cX11_plain 5 = .ok (.iaload, 1) := by decide +kernel
theorem dX11_plain_6 : decode cX11_plain 6 = .ok (.tableswitch 116 9 13 #[45, 34, 116, 56, 99], 34) := by decide +kernel
theorem dX11_plain_40 : decode cX11_plain 40 = .ok (.iconst 0, 1) := by decide +kernel
theorem dX11_plain_41 : decode cX11_plain 41 = .ok (.aload_n 0, 1) := by decide +kernel
theorem dX11_plain_42 : decode cX11_plain 42 = .ok (.getfield 122, 3) := by decide +kernel
theorem dX11_plain_45 : decode cX11_plain 45 = .ok (.iload_n 1, 1) := by decide +kernel
theorem dX11_plain_46 : decode cX11_plain 46 = .ok (.iaload, 1) := by decide +kernel
theorem dX11_plain_47 : decode cX11_plain 47 = .ok (.invokestatic 650, 3) := by decide +kernel
theorem dX11_plain_50 : decode cX11_plain 50 = .ok (.lreturn, 1) := by decide +kernel
theorem dX11_plain_51 : decode cX11_plain 51 = .ok (.iconst 2, 1) := by decide +kernel
theorem dX11_plain_52 : decode cX11_plain 52 = .ok (.aload_n 0, 1) := by decide +kernel
theorem dX11_plain_53 : decode cX11_plain 53 = .ok (.getfield 122, 3) := by decide +kernel
theorem dX11_plain_56 : decode cX11_plain 56 = .ok (.iload_n 1, 1) := by decide +kernel
theorem dX11_plain_57 : decode cX11_plain 57 = .ok (.iaload, 1) := by decide +kernel
theorem dX11_plain_58 : decode cX11_plain 58 = .ok (.invokestatic 650, 3) := by decide +kernel
theorem dX11_plain_61 : decode cX11_plain 61 = .ok (.lreturn, 1) := by decide +kernel
theorem dX11_plain_62 : decode cX11_plain 62 = .ok (.aload_n 0, 1) := by decide +kernel
theorem dX11_plain_63 : decode cX11_plain 63 = .ok (.getfield 171, 3) := by decide +kernel
theorem dX11_plain_66 : decode cX11_plain 66 = .ok (.aload_n 0, 1) := by decide +kernel
theorem dX11_plain_67 : decode cX11_plain 67 = .ok (.getfield 122, 3) := by decide +kernel
theorem dX11_plain_70 : decode cX11_plain 70 = .ok (.iload_n 1, 1) := by decide +kernel
theorem dX11_plain_71 : decode cX11_plain 71 = .ok (.iaload, 1) := by decide +kernel
theorem dX11_plain_72 : decode cX11_plain 72 = .ok (.iaload, 1) := by decide +kernel
theorem dX11_plain_73 : decode cX11_plain 73 = .ok (.ifCond .le 16, 3) := by decide +kernel
theorem dX11_plain_76 : decode cX11_plain 76 = .ok (.iconst 1, 1) := by decide +kernel
theorem dX11_plain_77 : decode cX11_plain 77 = .ok (.aload_n 0, 1) := by decide +kernel
theorem dX11_plain_78 : decode cX11_plain 78 = .ok (.getfield 122, 3) := by decide +kernel
theorem dX11_plain_81 : decode cX11_plain 81 = .ok (.iload_n 1, 1) := by decide +kernel
theorem dX11_plain_82 : decode cX11_plain 82 = .ok (.iaload, 1) := by decide +kernel
theorem dX11_plain_83 : decode cX11_plain 83 = .ok (.invokestatic 650, 3) := by decide +kernel
theorem dX11_plain_86 : decode cX11_plain 86 = .ok (.goto 18, 3) := by decide +kernel
theorem dX11_plain_89 : decode cX11_plain 89 = .ok (.iconst 3, 1) := by decide +kernel
theorem dX11_plain_90 : decode cX11_plain 90 = .ok (.aload_n 0, 1) := by decide +kernel
theorem dX11_plain_91 : decode cX11_plain 91 = .ok (.getfield 242, 3) := by decide +kernel
theorem dX11_plain_94 : decode cX11_plain 94 = .ok (.aload_n 0, 1) := by decide +kernel
theorem dX11_plain_95 : decode cX11_plain 95 = .ok (.getfield 122, 3) := by decide +kernel
theorem dX11_plain_98 : decode cX11_plain 98 = .ok (.iload_n 1, 1) := by decide +kernel
theorem dX11_plain_99 : decode cX11_plain 99 = .ok (.iaload, 1) := by decide +kernel
theorem dX11_plain_100 : decode cX11_plain 100 = .ok (.iaload, 1) := by decide +kernel
theorem dX11_plain_101 : decode cX11_plain 101 = .ok (.invokestatic 650, 3) := by decide +kernel
theorem dX11_plain_104 : decode cX11_plain 104 = .ok (.lreturn, 1) := by decide +kernel
theorem dX11_plain_105 : decode cX11_plain 105 = .ok (.aload_n 0, 1) := by decide +kernel
theorem dX11_plain_106 : decode cX11_plain 106 = .ok (.getfield 233, 3) := by decide +kernel
theorem dX11_plain_109 : decode cX11_plain 109 = .ok (.aload_n 0, 1) := by decide +kernel
theorem dX11_plain_110 : decode cX11_plain 110 = .ok (.getfield 614, 3) := by decide +kernel
theorem dX11_plain_113 : decode cX11_plain 113 = .ok (.aload_n 0, 1) := by decide +kernel
theorem dX11_plain_114 : decode cX11_plain 114 = .ok (.getfield 122, 3) := by decide +kernel
theorem dX11_plain_117 : decode cX11_plain 117 = .ok (.iload_n 1, 1) := by decide +kernel
theorem dX11_plain_118 : decode cX11_plain 118 = .ok (.iaload, 1) := by decide +kernel
theorem dX11_plain_119 : decode cX11_plain 119 = .ok (.iadd, 1) := by decide +kernel
theorem dX11_plain_120 : decode cX11_plain 120 = .ok (.laload, 1) := by decide +kernel
theorem dX11_plain_121 : decode cX11_plain 121 = .ok (.lreturn, 1) := by decide +kernel
theorem dX11_plain_122 : decode cX11_plain 122 = .ok (.ldc2_w 543, 3) := by decide +kernel
theorem dX11_plain_125 : decode cX11_plain 125 = .ok (.lreturn, 1) := by decide +kernel
theorem mw_X11_plain : MW yX11_plain (Cond.code yX11_plain cX11_plain 2 (Option.some Jvm.ClassFile.FieldType.long)) cX11_plain 2 (Option.some Jvm.ClassFile.FieldType.long) 1 := ⟨rfl, ⟨(lw_all_tbl q3304), rfl, (lw_all_tbl q173)⟩, rfl, ⟨by decide, by decide⟩, by decide +kernel⟩
noncomputable def t_plain (l1 : Int) : Mo TS Int :=
  bnd (rd 64 7000 l1) fun v1 =>
  if v1 = 9 then
    bnd (rd 65 7000 l1) fun v3 =>
    bnd (t_value 2 v3) fun v4 =>
    pr v4
  else
    if v1 = 10 then
      bnd (rd 65 7000 l1) fun v6 =>
      bnd (t_value 0 v6) fun v7 =>
      pr v7
    else
      if v1 = 12 then
        bnd (rd 65 7000 l1) fun v9 =>
        bnd (rd 82 640 v9) fun v10 =>
        if v10 ≤ 0 then
          bnd (rd 65 7000 l1) fun v11 =>
          bnd (rd 131 640 v11) fun v12 =>
          bnd (t_value 3 v12) fun v13 =>
          pr v13
        else
          bnd (rd 65 7000 l1) fun v14 =>
          bnd (t_value 1 v14) fun v15 =>
          pr v15
      else
        if v1 = 13 then
          bnd (gs 122) fun v17 =>
          bnd (rd 65 7000 l1) fun v18 =>
          bnd (rd 124 193000 (w32 (v17 + v18))) fun v19 =>
          pr v19
        else
          pr (-1)
theorem st_plain (g : gC) (d : Nat) (h : CH) (hT : HT h) (l1 : Int) (hl1 : R32 l1) : SF g yX11_plain (Cond.code yX11_plain cX11_plain 2 (Option.some Jvm.ClassFile.FieldType.long)) (Option.some Jvm.ClassFile.FieldType.long) (d + 1) [vA g 21, vI l1] (fun t => (h, t)) (t_plain l1) := by
  refine SF.of (lv := [(0, vA g 21), (1, vI l1)]) (by decide) (wt_A (wt_I wt_0)) rfl (by simp only [la_A, la_I, la_J, la_0]) (fun Γ hg hnm o => ?_)
  subst hg
  have o : Ok Γ "LazyForgeModel" cX11_plain 2 (Option.some Jvm.ClassFile.FieldType.long) (d + 1) := o
  unfold t_plain
  refine s_aload_n o dX11_plain_0 rfl 0 rfl ?_
  refine s_tga (x := 58) o hT tf_liftKinds ta_liftKinds (lw_all_tbl q2568) dX11_plain_1 ?_
  refine s_iload_n o dX11_plain_4 rfl 1 rfl ?_
  refine r_tiald o hT tr_liftKinds hl1 dX11_plain_5 (fun v1 hv1 => ?_)
  refine s_case (P := True) (fun e1 => ?_) (fun e1 => ?_)
  · refine s_tabE o e1 dX11_plain_6 (r32 rfl) rfl rfl (tgt := 51) (by decide) ?_
    refine s_iconst o dX11_plain_51 ?_
    refine s_aload_n o dX11_plain_52 rfl 0 rfl ?_
    refine s_tga (x := 59) o hT tf_liftValues ta_liftValues (lw_all_tbl q2569) dX11_plain_53 ?_
    refine s_iload_n o dX11_plain_56 rfl 1 rfl ?_
    refine r_tiald o hT tr_liftValues hl1 dX11_plain_57 (fun v3 hv3 => ?_)
    refine s_cs (d := d + 0) (As := [vI 2, vI v3]) (st := []) o (st_value (mg Γ) d h 2 v3 (r32 rfl) hv3) mw_X11_value rfl (Or.inl (lw_all_tbl q3242)) (lw_all_tbl q3243) wt_0 rfl dX11_plain_58 rfl (rs := fun r => [vJ r]) (fun _ => rfl) (fun v4 hv4 => ?_)
    exact s_lret o rfl (hv4 _ rfl) dX11_plain_61 (fun _ hh => hh)
  · refine s_case (P := True) (fun e4 => ?_) (fun e4 => ?_)
    · refine s_tabE o e4 dX11_plain_6 (r32 rfl) rfl rfl (tgt := 40) (by decide) ?_
      refine s_iconst o dX11_plain_40 ?_
      refine s_aload_n o dX11_plain_41 rfl 0 rfl ?_
      refine s_tga (x := 59) o hT tf_liftValues ta_liftValues (lw_all_tbl q2569) dX11_plain_42 ?_
      refine s_iload_n o dX11_plain_45 rfl 1 rfl ?_
      refine r_tiald o hT tr_liftValues hl1 dX11_plain_46 (fun v6 hv6 => ?_)
      refine s_cs (d := d + 0) (As := [vI 0, vI v6]) (st := []) o (st_value (mg Γ) d h 0 v6 (r32 rfl) hv6) mw_X11_value rfl (Or.inl (lw_all_tbl q3242)) (lw_all_tbl q3243) wt_0 rfl dX11_plain_47 rfl (rs := fun r => [vJ r]) (fun _ => rfl) (fun v7 hv7 => ?_)
      exact s_lret o rfl (hv7 _ rfl) dX11_plain_50 (fun _ hh => hh)
    · refine s_case (P := True) (fun e7 => ?_) (fun e7 => ?_)
      · refine s_tabE o e7 dX11_plain_6 (r32 rfl) rfl rfl (tgt := 62) (by decide) ?_
        refine s_aload_n o dX11_plain_62 rfl 0 rfl ?_
        refine s_tga (x := 75) o hT tf_parameterCounts ta_parameterCounts (lw_all_tbl q2586) dX11_plain_63 ?_
        refine s_aload_n o dX11_plain_66 rfl 0 rfl ?_
        refine s_tga (x := 59) o hT tf_liftValues ta_liftValues (lw_all_tbl q2569) dX11_plain_67 ?_
        refine s_iload_n o dX11_plain_70 rfl 1 rfl ?_
        refine r_tiald o hT tr_liftValues hl1 dX11_plain_71 (fun v9 hv9 => ?_)
        refine r_tiald o hT tr_parameterCounts hv9 dX11_plain_72 (fun v10 hv10 => ?_)
        refine s_if_le (tgt := 89) o dX11_plain_73 (by decide) hv10 ?_ ?_
        · refine s_iconst o dX11_plain_89 ?_
          refine s_aload_n o dX11_plain_90 rfl 0 rfl ?_
          refine s_tga (x := 96) o hT tf_functionCells ta_functionCells (lw_all_tbl q2635) dX11_plain_91 ?_
          refine s_aload_n o dX11_plain_94 rfl 0 rfl ?_
          refine s_tga (x := 59) o hT tf_liftValues ta_liftValues (lw_all_tbl q2569) dX11_plain_95 ?_
          refine s_iload_n o dX11_plain_98 rfl 1 rfl ?_
          refine r_tiald o hT tr_liftValues hl1 dX11_plain_99 (fun v11 hv11 => ?_)
          refine r_tiald o hT tr_functionCells hv11 dX11_plain_100 (fun v12 hv12 => ?_)
          refine s_cs (d := d + 0) (As := [vI 3, vI v12]) (st := []) o (st_value (mg Γ) d h 3 v12 (r32 rfl) hv12) mw_X11_value rfl (Or.inl (lw_all_tbl q3242)) (lw_all_tbl q3243) wt_0 rfl dX11_plain_101 rfl (rs := fun r => [vJ r]) (fun _ => rfl) (fun v13 hv13 => ?_)
          exact s_lret o rfl (hv13 _ rfl) dX11_plain_104 (fun _ hh => hh)
        · refine s_iconst o dX11_plain_76 ?_
          refine s_aload_n o dX11_plain_77 rfl 0 rfl ?_
          refine s_tga (x := 59) o hT tf_liftValues ta_liftValues (lw_all_tbl q2569) dX11_plain_78 ?_
          refine s_iload_n o dX11_plain_81 rfl 1 rfl ?_
          refine r_tiald o hT tr_liftValues hl1 dX11_plain_82 (fun v14 hv14 => ?_)
          refine s_cs (d := d + 0) (As := [vI 1, vI v14]) (st := []) o (st_value (mg Γ) d h 1 v14 (r32 rfl) hv14) mw_X11_value rfl (Or.inl (lw_all_tbl q3242)) (lw_all_tbl q3243) wt_0 rfl dX11_plain_83 rfl (rs := fun r => [vJ r]) (fun _ => rfl) (fun v15 hv15 => ?_)
          refine s_goto (tgt := 104) o dX11_plain_86 (by decide) ?_
          exact s_lret o rfl (hv15 _ rfl) dX11_plain_104 (fun _ hh => hh)
      · refine s_case (P := True) (fun e15 => ?_) (fun e15 => ?_)
        · refine s_tabE o e15 dX11_plain_6 (r32 rfl) rfl rfl (tgt := 105) (by decide) ?_
          refine s_aload_n o dX11_plain_105 rfl 0 rfl ?_
          refine s_tga (x := 93) o hT tf_locals ta_locals (lw_all_tbl q2628) dX11_plain_106 ?_
          refine s_aload_n o dX11_plain_109 rfl 0 rfl ?_
          refine r_tgf vI rfl o hT tf_base tj_base (lw_all_tbl q2626) dX11_plain_110 (fun v17 hv17 => ?_)
          refine s_aload_n o dX11_plain_113 rfl 0 rfl ?_
          refine s_tga (x := 59) o hT tf_liftValues ta_liftValues (lw_all_tbl q2569) dX11_plain_114 ?_
          refine s_iload_n o dX11_plain_117 rfl 1 rfl ?_
          refine r_tiald o hT tr_liftValues hl1 dX11_plain_118 (fun v18 hv18 => ?_)
          refine s_iadd o dX11_plain_119 ?_
          refine r_tlald o hT tr_locals (w32_R _) dX11_plain_120 (fun v19 hv19 => ?_)
          exact s_lret o rfl hv19 dX11_plain_121 (fun _ hh => hh)
        · refine s_split (x := v1) (v := 11) (fun e19 => ?_) (fun e19 => ?_)
          · refine s_tabE o e19 dX11_plain_6 (r32 rfl) rfl rfl (tgt := 122) (by decide) ?_
            refine s_ldc2 (n := -1) o dX11_plain_122 (lw_all_tbl q3188) rfl ?_
            exact s_lret o rfl (r64 rfl) dX11_plain_125 (fun _ hh => hh)
          · refine s_tabOut o dX11_plain_6 hv1 (by omega) (tgt := 122) (by decide) ?_
            refine s_ldc2 (n := -1) o dX11_plain_122 (lw_all_tbl q3188) rfl ?_
            exact s_lret o rfl (r64 rfl) dX11_plain_125 (fun _ hh => hh)
theorem dX11_isLess_0 : decode cX11_isLess 0 = .ok (.aload_n 0, 1) := by decide +kernel
theorem dX11_isLess_1 : decode cX11_isLess 1 = .ok (.getfield 119, 3) := by decide +kernel
theorem dX11_isLess_4 : decode cX11_isLess 4 = .ok (.iload_n 1, 1) := by decide +kernel
theorem dX11_isLess_5 : decode cX11_isLess 5 = .ok (.iaload, 1) := by decide +kernel
theorem dX11_isLess_6 : decode cX11_isLess 6 = .ok (.bipush 6, 2) := by decide +kernel
theorem dX11_isLess_8 : decode cX11_isLess 8 = .ok (.if_icmp .ne 19, 3) := by decide +kernel
theorem dX11_isLess_11 : decode cX11_isLess 11 = .ok (.aload_n 0, 1) := by decide +kernel
theorem dX11_isLess_12 : decode cX11_isLess 12 = .ok (.getfield 119, 3) := by decide +kernel
theorem dX11_isLess_15 : decode cX11_isLess 15 = .ok (.aload_n 0, 1) := by decide +kernel
theorem dX11_isLess_16 : decode cX11_isLess 16 = .ok (.iload_n 1, 1) := by decide +kernel
theorem dX11_isLess_17 : decode cX11_isLess 17 = .ok (.iconst 0, 1) := by decide +kernel
theorem dX11_isLess_18 : decode cX11_isLess 18 = .ok (.invokevirtual 545, 3) := by decide +kernel
theorem dX11_isLess_21 : decode cX11_isLess 21 = .ok (.iaload, 1) := by decide +kernel
theorem dX11_isLess_22 : decode cX11_isLess 22 = .ok (.bipush 12, 2) := by decide +kernel
theorem dX11_isLess_24 : decode cX11_isLess 24 = .ok (.if_icmp .eq 5, 3) := by decide +kernel
theorem dX11_isLess_27 : decode cX11_isLess 27 = .ok (.iconst 0, 1) := by decide +kernel
theorem dX11_isLess_28 : decode cX11_isLess 28 = .ok (.ireturn, 1) := by decide +kernel
theorem dX11_isLess_29 : decode cX11_isLess 29 = .ok (.aload_n 0, 1) := by decide +kernel
theorem dX11_isLess_30 : decode cX11_isLess 30 = .ok (.getfield 128, 3) := by decide +kernel
theorem dX11_isLess_33 : decode cX11_isLess 33 = .ok (.iload_n 1, 1) := by decide +kernel
theorem dX11_isLess_34 : decode cX11_isLess 34 = .ok (.iaload, 1) := by decide +kernel
theorem dX11_isLess_35 : decode cX11_isLess 35 = .ok (.iconst 1, 1) := by decide +kernel
theorem dX11_isLess_36 : decode cX11_isLess 36 = .ok (.isub, 1) := by decide +kernel
theorem dX11_isLess_37 : decode cX11_isLess 37 = .ok (.aload_n 0, 1) := by decide +kernel
theorem dX11_isLess_38 : decode cX11_isLess 38 = .ok (.getfield 171, 3) := by decide +kernel
theorem dX11_isLess_41 : decode cX11_isLess 41 = .ok (.aload_n 0, 1) := by decide +kernel
theorem dX11_isLess_42 : decode cX11_isLess 42 = .ok (.getfield 122, 3) := by decide +kernel
theorem dX11_isLess_45 : decode cX11_isLess 45 = .ok (.aload_n 0, 1) := by decide +kernel
theorem dX11_isLess_46 : decode cX11_isLess 46 = .ok (.iload_n 1, 1) := by decide +kernel
theorem dX11_isLess_47 : decode cX11_isLess 47 = .ok (.iconst 0, 1) := by decide +kernel
theorem dX11_isLess_48 : decode cX11_isLess 48 = .ok (.invokevirtual 545, 3) := by decide +kernel
theorem dX11_isLess_51 : decode cX11_isLess 51 = .ok (.iaload, 1) := by decide +kernel
theorem dX11_isLess_52 : decode cX11_isLess 52 = .ok (.iaload, 1) := by decide +kernel
theorem dX11_isLess_53 : decode cX11_isLess 53 = .ok (.if_icmp .ge 7, 3) := by decide +kernel
theorem dX11_isLess_56 : decode cX11_isLess 56 = .ok (.iconst 1, 1) := by decide +kernel
theorem dX11_isLess_57 : decode cX11_isLess 57 = .ok (.goto 4, 3) := by decide +kernel
theorem dX11_isLess_60 : decode cX11_isLess 60 = .ok (.iconst 0, 1) := by decide +kernel
theorem dX11_isLess_61 : decode cX11_isLess 61 = .ok (.ireturn, 1) := by decide +kernel
theorem mw_X11_isLess : MW yX11_isLess (Cond.code yX11_isLess cX11_isLess 2 (Option.some Jvm.ClassFile.FieldType.boolean)) cX11_isLess 2 (Option.some Jvm.ClassFile.FieldType.boolean) 1 := ⟨rfl, ⟨(lw_all_tbl q3312), rfl, (lw_all_tbl q173)⟩, rfl, ⟨by decide, by decide⟩, by decide +kernel⟩
noncomputable def t_isLess (l1 : Int) : Mo TS Int :=
  bnd (rd 64 7000 l1) fun v1 =>
  if ¬ v1 = 6 then
    pr 0
  else
    bnd (t_child l1 0) fun v2 =>
    bnd (rd 64 7000 v2) fun v3 =>
    if v3 = 12 then
      bnd (rd 67 7000 l1) fun v4 =>
      bnd (t_child l1 0) fun v5 =>
      bnd (rd 65 7000 v5) fun v6 =>
      bnd (rd 82 640 v6) fun v7 =>
      if v7 ≤ (w32 (v4 - 1)) then
        pr 0
      else
        pr 1
    else
      pr 0
theorem st_isLess (g : gC) (d : Nat) (h : CH) (hT : HT h) (l1 : Int) (hl1 : R32 l1) : SF g yX11_isLess (Cond.code yX11_isLess cX11_isLess 2 (Option.some Jvm.ClassFile.FieldType.boolean)) (Option.some Jvm.ClassFile.FieldType.boolean) (d + 1) [vA g 21, vI l1] (fun t => (h, t)) (t_isLess l1) := by
  refine SF.of (lv := [(0, vA g 21), (1, vI l1)]) (by decide) (wt_A (wt_I wt_0)) rfl (by simp only [la_A, la_I, la_J, la_0]) (fun Γ hg hnm o => ?_)
  subst hg
  have o : Ok Γ "LazyForgeModel" cX11_isLess 2 (Option.some Jvm.ClassFile.FieldType.boolean) (d + 1) := o
  unfold t_isLess
  refine s_aload_n o dX11_isLess_0 rfl 0 rfl ?_
  refine s_tga (x := 58) o hT tf_liftKinds ta_liftKinds (lw_all_tbl q2568) dX11_isLess_1 ?_
  refine s_iload_n o dX11_isLess_4 rfl 1 rfl ?_
  refine r_tiald o hT tr_liftKinds hl1 dX11_isLess_5 (fun v1 hv1 => ?_)
  refine s_bipush o dX11_isLess_6 rfl ?_
  refine s_icmp_ne (tgt := 27) o dX11_isLess_8 (by decide) hv1 (r32 rfl) ?_ ?_
  · refine s_iconst o dX11_isLess_27 ?_
    exact s_iret o rfl i_boolean (Or.inl rfl) dX11_isLess_28 (fun _ hh => hh)
  · refine s_aload_n o dX11_isLess_11 rfl 0 rfl ?_
    refine s_tga (x := 58) o hT tf_liftKinds ta_liftKinds (lw_all_tbl q2568) dX11_isLess_12 ?_
    refine s_aload_n o dX11_isLess_15 rfl 0 rfl ?_
    refine s_iload_n o dX11_isLess_16 rfl 1 rfl ?_
    refine s_iconst o dX11_isLess_17 ?_
    refine s_cv (d := d + 0) (C := "LazyForgeModel") (As := [vI l1, vI 0]) (st := [vA (mg Γ) 58]) o (st_child (mg Γ) d h hT l1 0 hl1 (r32 rfl)) mw_X11_child rfl (Or.inl (lw_all_tbl q3189)) (lw_all_tbl qs115) (lw_all_tbl q3191) (fun t => rc_t o hT t) (wt_A wt_0) rfl dX11_isLess_18 rfl (rs := fun r => [vI r, vA (mg Γ) 58]) (fun _ => rfl) (fun v2 hv2 => ?_)
    refine r_tiald o hT tr_liftKinds (hv2 _ rfl) dX11_isLess_21 (fun v3 hv3 => ?_)
    refine s_bipush o dX11_isLess_22 rfl ?_
    refine s_icmp_eq (tgt := 29) o dX11_isLess_24 (by decide) hv3 (r32 rfl) ?_ ?_
    · refine s_aload_n o dX11_isLess_29 rfl 0 rfl ?_
      refine s_tga (x := 61) o hT tf_liftCounts ta_liftCounts (lw_all_tbl q2571) dX11_isLess_30 ?_
      refine s_iload_n o dX11_isLess_33 rfl 1 rfl ?_
      refine r_tiald o hT tr_liftCounts hl1 dX11_isLess_34 (fun v4 hv4 => ?_)
      refine s_iconst o dX11_isLess_35 ?_
      refine s_isub o dX11_isLess_36 ?_
      refine s_aload_n o dX11_isLess_37 rfl 0 rfl ?_
      refine s_tga (x := 75) o hT tf_parameterCounts ta_parameterCounts (lw_all_tbl q2586) dX11_isLess_38 ?_
      refine s_aload_n o dX11_isLess_41 rfl 0 rfl ?_
      refine s_tga (x := 59) o hT tf_liftValues ta_liftValues (lw_all_tbl q2569) dX11_isLess_42 ?_
      refine s_aload_n o dX11_isLess_45 rfl 0 rfl ?_
      refine s_iload_n o dX11_isLess_46 rfl 1 rfl ?_
      refine s_iconst o dX11_isLess_47 ?_
      refine s_cv (d := d + 0) (C := "LazyForgeModel") (As := [vI l1, vI 0]) (st := [vA (mg Γ) 59, vA (mg Γ) 75, vI (w32 (v4 - 1))]) o (st_child (mg Γ) d h hT l1 0 hl1 (r32 rfl)) mw_X11_child rfl (Or.inl (lw_all_tbl q3189)) (lw_all_tbl qs115) (lw_all_tbl q3191) (fun t => rc_t o hT t) (wt_A (wt_A (wt_I wt_0))) rfl dX11_isLess_48 rfl (rs := fun r => [vI r, vA (mg Γ) 59, vA (mg Γ) 75, vI (w32 (v4 - 1))]) (fun _ => rfl) (fun v5 hv5 => ?_)
      refine r_tiald o hT tr_liftValues (hv5 _ rfl) dX11_isLess_51 (fun v6 hv6 => ?_)
      refine r_tiald o hT tr_parameterCounts hv6 dX11_isLess_52 (fun v7 hv7 => ?_)
      refine s_icmp_ge (tgt := 60) o dX11_isLess_53 (by decide) (w32_R _) hv7 ?_ ?_
      · refine s_iconst o dX11_isLess_60 ?_
        exact s_iret o rfl i_boolean (Or.inl rfl) dX11_isLess_61 (fun _ hh => hh)
      · refine s_iconst o dX11_isLess_56 ?_
        refine s_goto (tgt := 61) o dX11_isLess_57 (by decide) ?_
        exact s_iret o rfl i_boolean (Or.inr rfl) dX11_isLess_61 (fun _ hh => hh)
    · refine s_iconst o dX11_isLess_27 ?_
      exact s_iret o rfl i_boolean (Or.inl rfl) dX11_isLess_28 (fun _ hh => hh)
theorem dX11_fill_0 : decode cX11_fill 0 = .ok (.aload_n 0, 1) := by decide +kernel
theorem dX11_fill_1 : decode cX11_fill 1 = .ok (.getfield 203, 3) := by decide +kernel
theorem dX11_fill_4 : decode cX11_fill 4 = .ok (.iload_n 2, 1) := by decide +kernel
theorem dX11_fill_5 : decode cX11_fill 5 = .ok (.iaload, 1) := by decide +kernel
theorem dX11_fill_6 : decode cX11_fill 6 = .ok (.istore_n 3, 1) := by decide +kernel
theorem dX11_fill_7 : decode cX11_fill 7 = .ok (.aload_n 0, 1) := by decide +kernel
theorem dX11_fill_8 : decode cX11_fill 8 = .ok (.getfield 194, 3) := by decide +kernel
theorem dX11_fill_11 : decode cX11_fill 11 = .ok (.iload_n 2, 1) := by decide +kernel
theorem dX11_fill_12 : decode cX11_fill 12 = .ok (.iaload, 1) := by decide +kernel
theorem dX11_fill_13 : decode cX11_fill 13 = .ok (.iconst 2, 1) := by decide +kernel
theorem dX11_fill_14 : decode cX11_fill 14 = .ok (.if_icmp .ne 63, 3) := by decide +kernel
theorem dX11_fill_17 : decode cX11_fill 17 = .ok (.iconst 0, 1) := by decide +kernel
theorem dX11_fill_18 : decode cX11_fill 18 = .ok (.istore 4, 2) := by decide +kernel
theorem dX11_fill_20 : decode cX11_fill 20 = .ok (.iconst 0, 1) := by decide +kernel
theorem dX11_fill_21 : decode cX11_fill 21 = .ok (.istore 5, 2) := by decide +kernel
theorem dX11_fill_23 : decode cX11_fill 23 = .ok (.iload 5, 2) := by decide +kernel
theorem dX11_fill_25 : decode cX11_fill 25 = .ok (.bipush 40, 2) := by decide +kernel
theorem dX11_fill_27 : decode cX11_fill 27 = .ok (.if_icmp .ge 49, 3) := by decide +kernel
theorem dX11_fill_30 : decode cX11_fill 30 = .ok (.aload_n 0, 1) := by decide +kernel
theorem dX11_fill_31 : decode cX11_fill 31 = .ok (.getfield 144, 3) := by decide +kernel
theorem dX11_fill_34 : decode cX11_fill 34 = .ok (.iload_n 1, 1) := by decide +kernel
theorem dX11_fill_35 : decode cX11_fill 35 = .ok (.laload, 1) := by decide +kernel
theorem dX11_fill_36 : decode cX11_fill 36 = .ok (.iload 5, 2) := by decide +kernel
theorem dX11_fill_38 : decode cX11_fill 38 = .ok (.lshr, 1) := by decide +kernel
theorem dX11_fill_39 : decode cX11_fill 39 = .ok (.lconst 1, 1) := by decide +kernel
theorem dX11_fill_40 : decode cX11_fill 40 = .ok (.land, 1) := by decide +kernel
theorem dX11_fill_41 : decode cX11_fill 41 = .ok (.lconst 1, 1) := by decide +kernel
theorem dX11_fill_42 : decode cX11_fill 42 = .ok (.lcmp, 1) := by decide +kernel
theorem dX11_fill_43 : decode cX11_fill 43 = .ok (.ifCond .ne 27, 3) := by decide +kernel
theorem dX11_fill_46 : decode cX11_fill 46 = .ok (.aload_n 0, 1) := by decide +kernel
theorem dX11_fill_47 : decode cX11_fill 47 = .ok (.getfield 209, 3) := by decide +kernel
theorem dX11_fill_50 : decode cX11_fill 50 = .ok (.iload_n 3, 1) := by decide +kernel
theorem dX11_fill_51 : decode cX11_fill 51 = .ok (.iload 4, 2) := by decide +kernel
theorem dX11_fill_53 : decode cX11_fill 53 = .ok (.iadd, 1) := by decide +kernel
theorem dX11_fill_54 : decode cX11_fill 54 = .ok (.aload_n 0, 1) := by decide +kernel
theorem dX11_fill_55 : decode cX11_fill 55 = .ok (.getfield 233, 3) := by decide +kernel
theorem dX11_fill_58 : decode cX11_fill 58 = .ok (.aload_n 0, 1) := by decide +kernel
theorem dX11_fill_59 : decode cX11_fill 59 = .ok (.getfield 614, 3) := by decide +kernel
theorem dX11_fill_62 : decode cX11_fill 62 = .ok (.iload 5, 2) := by decide +kernel
theorem dX11_fill_64 : decode cX11_fill 64 = .ok (.iadd, 1) := by decide +kernel
theorem dX11_fill_65 : decode cX11_fill 65 = .ok (.laload, 1) := by decide +kernel
theorem dX11_fill_66 : decode cX11_fill 66 = .ok (.lastore, 1) := by decide +kernel
theorem dX11_fill_67 : decode cX11_fill 67 = .ok (.iinc 4 1, 3) := by decide +kernel
theorem dX11_fill_70 : decode cX11_fill 70 = .ok (.iinc 5 1, 3) := by decide +kernel
theorem dX11_fill_73 : decode cX11_fill 73 = .ok (.goto (-50), 3) := by decide +kernel
theorem dX11_fill_76 : decode cX11_fill 76 = .ok (.return_, 1) := by decide +kernel
theorem dX11_fill_77 : decode cX11_fill 77 = .ok (.aload_n 0, 1) := by decide +kernel
theorem dX11_fill_78 : decode cX11_fill 78 = .ok (.getfield 194, 3) := by decide +kernel
theorem dX11_fill_81 : decode cX11_fill 81 = .ok (.iload_n 2, 1) := by decide +kernel
theorem dX11_fill_82 : decode cX11_fill 82 = .ok (.iaload, 1) := by decide +kernel
theorem dX11_fill_83 : decode cX11_fill 83 = .ok (.iconst 1, 1) := by decide +kernel
theorem dX11_fill_84 : decode cX11_fill 84 = .ok (.if_icmp .ne 7, 3) := by decide +kernel
theorem dX11_fill_87 : decode cX11_fill 87 = .ok (.iconst 1, 1) := by decide +kernel
theorem dX11_fill_88 : decode cX11_fill 88 = .ok (.goto 4, 3) := by decide +kernel
theorem dX11_fill_91 : decode cX11_fill 91 = .ok (.iconst 0, 1) := by decide +kernel
theorem dX11_fill_92 : decode cX11_fill 92 = .ok (.istore 4, 2) := by decide +kernel
theorem dX11_fill_94 : decode cX11_fill 94 = .ok (.aload_n 0, 1) := by decide +kernel
theorem dX11_fill_95 : decode cX11_fill 95 = .ok (.getfield 206, 3) := by decide +kernel
theorem dX11_fill_98 : decode cX11_fill 98 = .ok (.iload_n 2, 1) := by decide +kernel
theorem dX11_fill_99 : decode cX11_fill 99 = .ok (.iaload, 1) := by decide +kernel
theorem dX11_fill_100 : decode cX11_fill 100 = .ok (.iconst 1, 1) := by decide +kernel
theorem dX11_fill_101 : decode cX11_fill 101 = .ok (.isub, 1) := by decide +kernel
theorem dX11_fill_102 : decode cX11_fill 102 = .ok (.istore 5, 2) := by decide +kernel
theorem dX11_fill_104 : decode cX11_fill 104 = .ok (.iload 5, 2) := by decide +kernel
theorem dX11_fill_106 : decode cX11_fill 106 = .ok (.ifCond .lt 51, 3) := by decide +kernel
theorem dX11_fill_109 : decode cX11_fill 109 = .ok (.aload_n 0, 1) := by decide +kernel
theorem dX11_fill_110 : decode cX11_fill 110 = .ok (.getfield 236, 3) := by decide +kernel
theorem dX11_fill_113 : decode cX11_fill 113 = .ok (.aload_n 0, 1) := by decide +kernel
theorem dX11_fill_114 : decode cX11_fill 114 = .ok (.getfield 663, 3) := by decide +kernel
theorem dX11_fill_117 : decode cX11_fill 117 = .ok (.aload_n 0, 1) := by decide +kernel
theorem dX11_fill_118 : decode cX11_fill 118 = .ok (.iload_n 1, 1) := by decide +kernel
theorem dX11_fill_119 : decode cX11_fill 119 = .ok (.iload 4, 2) := by decide +kernel
theorem dX11_fill_121 : decode cX11_fill 121 = .ok (.iload 5, 2) := by decide +kernel
theorem dX11_fill_123 : decode cX11_fill 123 = .ok (.iadd, 1) := by decide +kernel
theorem dX11_fill_124 : decode cX11_fill 124 = .ok (.invokevirtual 545, 3) := by decide +kernel
theorem dX11_fill_127 : decode cX11_fill 127 = .ok (.iastore, 1) := by decide +kernel
theorem dX11_fill_128 : decode cX11_fill 128 = .ok (.aload_n 0, 1) := by decide +kernel
theorem dX11_fill_129 : decode cX11_fill 129 = .ok (.getfield 239, 3) := by decide +kernel
theorem dX11_fill_132 : decode cX11_fill 132 = .ok (.aload_n 0, 1) := by decide +kernel
theorem dX11_fill_133 : decode cX11_fill 133 = .ok (.getfield 663, 3) := by decide +kernel
theorem dX11_fill_136 : decode cX11_fill 136 = .ok (.iload_n 3, 1) := by decide +kernel
theorem dX11_fill_137 : decode cX11_fill 137 = .ok (.iload 5, 2) := by decide +kernel
theorem dX11_fill_139 : decode cX11_fill 139 = .ok (.iadd, 1) := by decide +kernel
theorem dX11_fill_140 : decode cX11_fill 140 = .ok (.iastore, 1) := by decide +kernel
theorem dX11_fill_141 : decode cX11_fill 141 = .ok (.aload_n 0, 1) := by decide +kernel
theorem dX11_fill_142 : decode cX11_fill 142 = .ok (.dup, 1) := by decide +kernel
theorem dX11_fill_143 : decode cX11_fill 143 = .ok (.getfield 663, 3) := by decide +kernel
theorem dX11_fill_146 : decode cX11_fill 146 = .ok (.iconst 1, 1) := by decide +kernel
theorem dX11_fill_147 : decode cX11_fill 147 = .ok (.iadd, 1) := by decide +kernel
theorem dX11_fill_148 : decode cX11_fill 148 = .ok (.putfield 663, 3) := by decide +kernel
theorem dX11_fill_151 : decode cX11_fill 151 = .ok (.iinc 5 (-1), 3) := by decide +kernel
theorem dX11_fill_154 : decode cX11_fill 154 = .ok (.goto (-50), 3) := by decide +kernel
theorem dX11_fill_157 : decode cX11_fill 157 = .ok (.return_, 1) := by decide +kernel
theorem mw_X11_fill : MW yX11_fill (Cond.code yX11_fill cX11_fill 6 (Option.none : Option Jvm.ClassFile.FieldType)) cX11_fill 6 (Option.none : Option Jvm.ClassFile.FieldType) 2 := ⟨rfl, ⟨(lw_all_tbl q3319), rfl, (lw_all_tbl q173)⟩, rfl, ⟨by decide, by decide⟩, by decide +kernel⟩
abbrev okt_fill_104 (x : Int × Int × Int × Int) : Prop := R32 x.1 ∧ R32 x.2.1 ∧ rg .boolean x.2.2.1 ∧ R32 x.2.2.2
abbrev lvt_fill_104 (Γ : Gm) (x : Int × Int × Int × Int) : List (Nat × Value) := [(0, vA (mg Γ) 21), (1, vI x.1), (3, vI x.2.1), (4, vI x.2.2.1), (5, vI x.2.2.2)]
noncomputable def t_fill_104b {A : Type} (k_157 : Mo TS A) (l1 : Int) (l3 : Int) (l4 : Int) (l5 : Int) : Mo TS ((Int × Int × Int × Int) ⊕ A) :=
  if l5 < 0 then
    lo k_157
  else
    bnd (gs 128) fun v1 =>
    bnd (t_child l1 (w32 (l4 + l5))) fun v2 =>
    bnd (wr 129 8000 v1 v2) fun _ =>
    bnd (gs 128) fun v3 =>
    bnd (wr 130 8000 v3 (w32 (l3 + l5))) fun _ =>
    bnd (gs 128) fun v4 =>
    bnd (ss 128 (w32 (v4 + 1))) fun _ =>
    pr (.inl (l1, l3, l4, (w32 (l5 + (-1)))))
theorem st_fill_104b {Γ : Gm} {h : CH} {d : Nat} (hT : HT h) (o : Ok Γ "LazyForgeModel" cX11_fill 6 (Option.none : Option Jvm.ClassFile.FieldType) (d + 1)) {A : Type} {K : A → TS → Prop} (k_157 : Mo TS A) (hk_157 : Sx Γ (fun t => (h, t)) K 157 [] [] (k_157)) (l1 : Int) (l3 : Int) (l4 : Int) (l5 : Int) (hl1 : R32 l1) (hl3 : R32 l3) (hl4 : rg .boolean l4) (hl5 : R32 l5) : Sx Γ (fun t => (h, t)) (KL Γ (fun t => (h, t)) okt_fill_104 K 104 (lvt_fill_104 Γ) []) 104 [(0, vA (mg Γ) 21), (1, vI l1), (3, vI l3), (4, vI l4), (5, vI l5)] [] (t_fill_104b k_157 l1 l3 l4 l5) := by
  unfold t_fill_104b
  refine s_iload o dX11_fill_104 4 rfl ?_
  refine s_if_lt (tgt := 157) o dX11_fill_106 (by decide) hl5 ?_ ?_
  · refine r_to [] [] rfl ?_
    exact s_lo hk_157
  · refine s_aload_n o dX11_fill_109 rfl 0 rfl ?_
    refine s_tga (x := 94) o hT tf_taskParts ta_taskParts (lw_all_tbl q2633) dX11_fill_110 ?_
    refine s_aload_n o dX11_fill_113 rfl 0 rfl ?_
    refine r_tgf vI rfl o hT tf_tasks tj_tasks (lw_all_tbl q2632) dX11_fill_114 (fun v1 hv1 => ?_)
    refine s_aload_n o dX11_fill_117 rfl 0 rfl ?_
    refine s_iload_n o dX11_fill_118 rfl 1 rfl ?_
    refine s_iload o dX11_fill_119 3 rfl ?_
    refine s_iload o dX11_fill_121 4 rfl ?_
    refine s_iadd o dX11_fill_123 ?_
    refine s_cv (d := d + 0) (C := "LazyForgeModel") (As := [vI l1, vI (w32 (l4 + l5))]) (st := [vI v1, vA (mg Γ) 94]) o (st_child (mg Γ) d h hT l1 (w32 (l4 + l5)) hl1 (w32_R _)) mw_X11_child rfl (Or.inl (lw_all_tbl q3189)) (lw_all_tbl qs115) (lw_all_tbl q3191) (fun t => rc_t o hT t) (wt_I (wt_A wt_0)) rfl dX11_fill_124 rfl (rs := fun r => [vI r, vI v1, vA (mg Γ) 94]) (fun _ => rfl) (fun v2 hv2 => ?_)
    refine r_tiast o hT tr_taskParts hv1 (hv2 _ rfl) dX11_fill_127 ?_
    refine s_aload_n o dX11_fill_128 rfl 0 rfl ?_
    refine s_tga (x := 95) o hT tf_taskPlaces ta_taskPlaces (lw_all_tbl q2634) dX11_fill_129 ?_
    refine s_aload_n o dX11_fill_132 rfl 0 rfl ?_
    refine r_tgf vI rfl o hT tf_tasks tj_tasks (lw_all_tbl q2632) dX11_fill_133 (fun v3 hv3 => ?_)
    refine s_iload_n o dX11_fill_136 rfl 2 rfl ?_
    refine s_iload o dX11_fill_137 4 rfl ?_
    refine s_iadd o dX11_fill_139 ?_
    refine r_tiast o hT tr_taskPlaces hv3 (w32_R _) dX11_fill_140 ?_
    refine s_aload_n o dX11_fill_141 rfl 0 rfl ?_
    refine s_dup o dX11_fill_142 (vA_cat (mg Γ) 21) ?_
    refine r_tgf vI rfl o hT tf_tasks tj_tasks (lw_all_tbl q2632) dX11_fill_143 (fun v4 hv4 => ?_)
    refine s_iconst o dX11_fill_146 ?_
    refine s_iadd o dX11_fill_147 ?_
    refine r_tpf vI rfl o hT tf_tasks tj_tasks (lw_all_tbl q2632) dX11_fill_148 (w32_R _) ty_int ?_
    refine r_iinc (j := 4) o dX11_fill_151 rfl rfl [(0, vA (mg Γ) 21), (1, vI l1), (3, vI l3), (4, vI l4)] [0, 1, 2, 3] rfl ⟨(Nat.ne_of_beq_eq_false rfl), (fun _ => (vA_cat (mg Γ) 21)), ⟨(Nat.ne_of_beq_eq_false rfl), (fun _ => rfl), ⟨(Nat.ne_of_beq_eq_false rfl), (fun _ => rfl), ⟨(Nat.ne_of_beq_eq_false rfl), (fun _ => rfl), trivial⟩⟩⟩⟩ ?_
    refine s_goto (tgt := 104) o dX11_fill_154 (by decide) ?_
    refine r_to [(0, vA (mg Γ) 21), (1, vI l1), (3, vI l3), (4, vI l4), (5, vI (w32 (l5 + (-1))))] [1, 2, 3, 4, 0] rfl ?_
    exact s_back (⟨hl1, hl3, hl4, (w32_R _)⟩) rfl
noncomputable def t_fill_104 {A : Type} (k_157 : Mo TS A) (l1 : Int) (l3 : Int) (l4 : Int) (l5 : Int) : Mo TS A := Loop (fun x => t_fill_104b k_157 x.1 x.2.1 x.2.2.1 x.2.2.2) (l1, l3, l4, l5)
theorem st_fill_104 {Γ : Gm} {h : CH} {d : Nat} (hT : HT h) (o : Ok Γ "LazyForgeModel" cX11_fill 6 (Option.none : Option Jvm.ClassFile.FieldType) (d + 1)) {A : Type} {K : A → TS → Prop} (k_157 : Mo TS A) (hk_157 : Sx Γ (fun t => (h, t)) K 157 [] [] (k_157)) (l1 : Int) (l3 : Int) (l4 : Int) (l5 : Int) (hl1 : R32 l1) (hl3 : R32 l3) (hl4 : rg .boolean l4) (hl5 : R32 l5) : Sx Γ (fun t => (h, t)) K 104 [(0, vA (mg Γ) 21), (1, vI l1), (3, vI l3), (4, vI l4), (5, vI l5)] [] (t_fill_104 k_157 l1 l3 l4 l5) :=
  s_loop okt_fill_104 (lvt_fill_104 Γ) (fun x hx => st_fill_104b hT o k_157 hk_157 x.1 x.2.1 x.2.2.1 x.2.2.2 hx.1 hx.2.1 hx.2.2.1 hx.2.2.2) (x := (l1, l3, l4, l5)) ⟨hl1, hl3, hl4, hl5⟩
abbrev okt_fill_23 (x : Int × Int × Int × Int) : Prop := R32 x.1 ∧ R32 x.2.1 ∧ R32 x.2.2.1 ∧ R32 x.2.2.2
abbrev lvt_fill_23 (Γ : Gm) (x : Int × Int × Int × Int) : List (Nat × Value) := [(0, vA (mg Γ) 21), (1, vI x.1), (3, vI x.2.1), (4, vI x.2.2.1), (5, vI x.2.2.2)]
noncomputable def t_fill_70 {A : Type} (k_76 : Mo TS A) (l1 : Int) (l3 : Int) (l4 : Int) (l5 : Int) : Mo TS ((Int × Int × Int × Int) ⊕ A) :=
  pr (.inl (l1, l3, l4, (w32 (l5 + 1))))
theorem st_fill_70 {Γ : Gm} {h : CH} {d : Nat} (hT : HT h) (o : Ok Γ "LazyForgeModel" cX11_fill 6 (Option.none : Option Jvm.ClassFile.FieldType) (d + 1)) {A : Type} {K : A → TS → Prop}  (k_76 : Mo TS A) (hk_76 : Sx Γ (fun t => (h, t)) K 76 [] [] (k_76)) (l1 : Int) (l3 : Int) (l4 : Int) (l5 : Int) (hl1 : R32 l1) (hl3 : R32 l3) (hl4 : R32 l4) (hl5 : R32 l5) : Sx Γ (fun t => (h, t)) (KL Γ (fun t => (h, t)) okt_fill_23 K 23 (lvt_fill_23 Γ) []) 70 [(0, vA (mg Γ) 21), (1, vI l1), (3, vI l3), (4, vI l4), (5, vI l5)] [] (t_fill_70 k_76 l1 l3 l4 l5) := by
  unfold t_fill_70
  refine r_iinc (j := 4) o dX11_fill_70 rfl rfl [(0, vA (mg Γ) 21), (1, vI l1), (3, vI l3), (4, vI l4)] [0, 1, 2, 3] rfl ⟨(Nat.ne_of_beq_eq_false rfl), (fun _ => (vA_cat (mg Γ) 21)), ⟨(Nat.ne_of_beq_eq_false rfl), (fun _ => rfl), ⟨(Nat.ne_of_beq_eq_false rfl), (fun _ => rfl), ⟨(Nat.ne_of_beq_eq_false rfl), (fun _ => rfl), trivial⟩⟩⟩⟩ ?_
  refine s_goto (tgt := 23) o dX11_fill_73 (by decide) ?_
  refine r_to [(0, vA (mg Γ) 21), (1, vI l1), (3, vI l3), (4, vI l4), (5, vI (w32 (l5 + 1)))] [1, 2, 3, 4, 0] rfl ?_
  exact s_back (⟨hl1, hl3, hl4, (w32_R _)⟩) rfl
noncomputable def t_fill_23b {A : Type} (k_76 : Mo TS A) (l1 : Int) (l3 : Int) (l4 : Int) (l5 : Int) : Mo TS ((Int × Int × Int × Int) ⊕ A) :=
  if 40 ≤ l5 then
    lo k_76
  else
    bnd (rd 72 7000 l1) fun v1 =>
    if ¬ (land (lshr v1 l5) 1) = 1 then
      t_fill_70 k_76 l1 l3 l4 l5
    else
      bnd (gs 122) fun v2 =>
      bnd (rd 124 193000 (w32 (v2 + l5))) fun v3 =>
      bnd (wr 99 4100 (w32 (l3 + l4)) v3) fun _ =>
      t_fill_70 k_76 l1 l3 (w32 (l4 + 1)) l5
theorem st_fill_23b {Γ : Gm} {h : CH} {d : Nat} (hT : HT h) (o : Ok Γ "LazyForgeModel" cX11_fill 6 (Option.none : Option Jvm.ClassFile.FieldType) (d + 1)) {A : Type} {K : A → TS → Prop} (k_76 : Mo TS A) (hk_76 : Sx Γ (fun t => (h, t)) K 76 [] [] (k_76)) (l1 : Int) (l3 : Int) (l4 : Int) (l5 : Int) (hl1 : R32 l1) (hl3 : R32 l3) (hl4 : R32 l4) (hl5 : R32 l5) : Sx Γ (fun t => (h, t)) (KL Γ (fun t => (h, t)) okt_fill_23 K 23 (lvt_fill_23 Γ) []) 23 [(0, vA (mg Γ) 21), (1, vI l1), (3, vI l3), (4, vI l4), (5, vI l5)] [] (t_fill_23b k_76 l1 l3 l4 l5) := by
  unfold t_fill_23b
  refine s_iload o dX11_fill_23 4 rfl ?_
  refine s_bipush o dX11_fill_25 rfl ?_
  refine s_icmp_ge (tgt := 76) o dX11_fill_27 (by decide) hl5 (r32 rfl) ?_ ?_
  · refine r_to [] [] rfl ?_
    exact s_lo hk_76
  · refine s_aload_n o dX11_fill_30 rfl 0 rfl ?_
    refine s_tga (x := 66) o hT tf_outside ta_outside (lw_all_tbl q2576) dX11_fill_31 ?_
    refine s_iload_n o dX11_fill_34 rfl 1 rfl ?_
    refine r_tlald o hT tr_outside hl1 dX11_fill_35 (fun v1 hv1 => ?_)
    refine s_iload o dX11_fill_36 4 rfl ?_
    refine s_lshr o dX11_fill_38 ?_
    refine s_lconst (x := 1) o dX11_fill_39 rfl ?_
    refine s_land o dX11_fill_40 ?_
    refine s_lconst (x := 1) o dX11_fill_41 rfl ?_
    refine s_lcmp_ne (tgt := 70) o dX11_fill_42 dX11_fill_43 (by decide) (land_R _ _) (r64 rfl) ?_ ?_
    · exact st_fill_70 hT o k_76 hk_76 l1 l3 l4 l5 hl1 hl3 hl4 hl5
    · refine s_aload_n o dX11_fill_46 rfl 0 rfl ?_
      refine s_tga (x := 86) o hT tf_fields ta_fields (lw_all_tbl q2603) dX11_fill_47 ?_
      refine s_iload_n o dX11_fill_50 rfl 2 rfl ?_
      refine s_iload o dX11_fill_51 3 rfl ?_
      refine s_iadd o dX11_fill_53 ?_
      refine s_aload_n o dX11_fill_54 rfl 0 rfl ?_
      refine s_tga (x := 93) o hT tf_locals ta_locals (lw_all_tbl q2628) dX11_fill_55 ?_
      refine s_aload_n o dX11_fill_58 rfl 0 rfl ?_
      refine r_tgf vI rfl o hT tf_base tj_base (lw_all_tbl q2626) dX11_fill_59 (fun v2 hv2 => ?_)
      refine s_iload o dX11_fill_62 4 rfl ?_
      refine s_iadd o dX11_fill_64 ?_
      refine r_tlald o hT tr_locals (w32_R _) dX11_fill_65 (fun v3 hv3 => ?_)
      refine r_tlast o hT tr_fields (w32_R _) hv3 dX11_fill_66 ?_
      refine r_iinc (j := 3) o dX11_fill_67 rfl rfl [(0, vA (mg Γ) 21), (1, vI l1), (3, vI l3), (5, vI l5)] [0, 1, 2, 4] rfl ⟨(Nat.ne_of_beq_eq_false rfl), (fun _ => (vA_cat (mg Γ) 21)), ⟨(Nat.ne_of_beq_eq_false rfl), (fun _ => rfl), ⟨(Nat.ne_of_beq_eq_false rfl), (fun _ => rfl), ⟨(Nat.ne_of_beq_eq_false rfl), (fun _ => rfl), trivial⟩⟩⟩⟩ ?_
      refine r_to [(0, vA (mg Γ) 21), (1, vI l1), (3, vI l3), (4, vI (w32 (l4 + 1))), (5, vI l5)] [1, 2, 3, 0, 4] rfl ?_
      exact st_fill_70 hT o k_76 hk_76 l1 l3 (w32 (l4 + 1)) l5 hl1 hl3 (w32_R _) hl5
noncomputable def t_fill_23 {A : Type} (k_76 : Mo TS A) (l1 : Int) (l3 : Int) (l4 : Int) (l5 : Int) : Mo TS A := Loop (fun x => t_fill_23b k_76 x.1 x.2.1 x.2.2.1 x.2.2.2) (l1, l3, l4, l5)
theorem st_fill_23 {Γ : Gm} {h : CH} {d : Nat} (hT : HT h) (o : Ok Γ "LazyForgeModel" cX11_fill 6 (Option.none : Option Jvm.ClassFile.FieldType) (d + 1)) {A : Type} {K : A → TS → Prop} (k_76 : Mo TS A) (hk_76 : Sx Γ (fun t => (h, t)) K 76 [] [] (k_76)) (l1 : Int) (l3 : Int) (l4 : Int) (l5 : Int) (hl1 : R32 l1) (hl3 : R32 l3) (hl4 : R32 l4) (hl5 : R32 l5) : Sx Γ (fun t => (h, t)) K 23 [(0, vA (mg Γ) 21), (1, vI l1), (3, vI l3), (4, vI l4), (5, vI l5)] [] (t_fill_23 k_76 l1 l3 l4 l5) :=
  s_loop okt_fill_23 (lvt_fill_23 Γ) (fun x hx => st_fill_23b hT o k_76 hk_76 x.1 x.2.1 x.2.2.1 x.2.2.2 hx.1 hx.2.1 hx.2.2.1 hx.2.2.2) (x := (l1, l3, l4, l5)) ⟨hl1, hl3, hl4, hl5⟩
noncomputable def t_fill_92  (l1 : Int) (l2 : Int) (l3 : Int) (k0 : Int) : Mo TS Int :=
  bnd (rd 96 4100 l2) fun v1 =>
  t_fill_104
    (pr 0) l1 l3 k0 (w32 (v1 - 1))
theorem st_fill_92 {Γ : Gm} {h : CH} {d : Nat} (hT : HT h) (o : Ok Γ "LazyForgeModel" cX11_fill 6 (Option.none : Option Jvm.ClassFile.FieldType) (d + 1))   (l1 : Int) (l2 : Int) (l3 : Int) (k0 : Int) (hl1 : R32 l1) (hl2 : R32 l2) (hl3 : R32 l3) (hk0 : rg .boolean k0) : Sx Γ (fun t => (h, t)) (fun a s => mt Γ = (0, a, ((h, s) : Wd))) 92 [(0, vA (mg Γ) 21), (1, vI l1), (2, vI l2), (3, vI l3)] [vI k0] (t_fill_92 l1 l2 l3 k0) := by
  unfold t_fill_92
  refine r_istore o dX11_fill_92 rfl ⟨(Nat.ne_of_beq_eq_false rfl), (fun _ => (vA_cat (mg Γ) 21)), ⟨(Nat.ne_of_beq_eq_false rfl), (fun _ => rfl), ⟨(Nat.ne_of_beq_eq_false rfl), (fun _ => rfl), ⟨(Nat.ne_of_beq_eq_false rfl), (fun _ => rfl), trivial⟩⟩⟩⟩ ?_
  refine s_aload_n o dX11_fill_94 rfl 1 rfl ?_
  refine s_tga (x := 85) o hT tf_cellCounts ta_cellCounts (lw_all_tbl q2600) dX11_fill_95 ?_
  refine s_iload_n o dX11_fill_98 rfl 3 rfl ?_
  refine r_tiald o hT tr_cellCounts hl2 dX11_fill_99 (fun v1 hv1 => ?_)
  refine s_iconst o dX11_fill_100 ?_
  refine s_isub o dX11_fill_101 ?_
  refine r_istore o dX11_fill_102 rfl ⟨(Nat.ne_of_beq_eq_false rfl), (fun _ => rfl), ⟨(Nat.ne_of_beq_eq_false rfl), (fun _ => (vA_cat (mg Γ) 21)), ⟨(Nat.ne_of_beq_eq_false rfl), (fun _ => rfl), ⟨(Nat.ne_of_beq_eq_false rfl), (fun _ => rfl), ⟨(Nat.ne_of_beq_eq_false rfl), (fun _ => rfl), trivial⟩⟩⟩⟩⟩ ?_
  refine r_to [(0, vA (mg Γ) 21), (1, vI l1), (3, vI l3), (4, vI k0), (5, vI (w32 (v1 - 1)))] [2, 3, 5, 1, 0] rfl ?_
  refine st_fill_104 hT o _ ?_ l1 l3 k0 (w32 (v1 - 1)) hl1 hl3 hk0 (w32_R _)
  · exact s_vret o rfl dX11_fill_157 (fun _ hh => hh)
noncomputable def t_fill (l1 : Int) (l2 : Int) : Mo TS Int :=
  bnd (rd 95 4100 l2) fun v1 =>
  bnd (rd 92 4100 l2) fun v2 =>
  if ¬ v2 = 2 then
    bnd (rd 92 4100 l2) fun v3 =>
    if ¬ v3 = 1 then
      t_fill_92 l1 l2 v1 0
    else
      t_fill_92 l1 l2 v1 1
  else
    t_fill_23
      (pr 0) l1 v1 0 0
theorem st_fill (g : gC) (d : Nat) (h : CH) (hT : HT h) (l1 : Int) (l2 : Int) (hl1 : R32 l1) (hl2 : R32 l2) : SF g yX11_fill (Cond.code yX11_fill cX11_fill 6 (Option.none : Option Jvm.ClassFile.FieldType)) (Option.none : Option Jvm.ClassFile.FieldType) (d + 1) [vA g 21, vI l1, vI l2] (fun t => (h, t)) (t_fill l1 l2) := by
  refine SF.of (lv := [(0, vA g 21), (1, vI l1), (2, vI l2)]) (by decide) (wt_A (wt_I (wt_I wt_0))) rfl (by simp only [la_A, la_I, la_J, la_0]) (fun Γ hg hnm o => ?_)
  subst hg
  have o : Ok Γ "LazyForgeModel" cX11_fill 6 (Option.none : Option Jvm.ClassFile.FieldType) (d + 1) := o
  unfold t_fill
  refine s_aload_n o dX11_fill_0 rfl 0 rfl ?_
  refine s_tga (x := 84) o hT tf_cellBegins ta_cellBegins (lw_all_tbl q2599) dX11_fill_1 ?_
  refine s_iload_n o dX11_fill_4 rfl 2 rfl ?_
  refine r_tiald o hT tr_cellBegins hl2 dX11_fill_5 (fun v1 hv1 => ?_)
  refine r_istore_n o dX11_fill_6 rfl rfl ⟨(Nat.ne_of_beq_eq_false rfl), (fun _ => (vA_cat (mg Γ) 21)), ⟨(Nat.ne_of_beq_eq_false rfl), (fun _ => rfl), ⟨(Nat.ne_of_beq_eq_false rfl), (fun _ => rfl), trivial⟩⟩⟩ ?_
  refine s_aload_n o dX11_fill_7 rfl 1 rfl ?_
  refine s_tga (x := 81) o hT tf_cellSorts ta_cellSorts (lw_all_tbl q2596) dX11_fill_8 ?_
  refine s_iload_n o dX11_fill_11 rfl 3 rfl ?_
  refine r_tiald o hT tr_cellSorts hl2 dX11_fill_12 (fun v2 hv2 => ?_)
  refine s_iconst o dX11_fill_13 ?_
  refine s_icmp_ne (tgt := 77) o dX11_fill_14 (by decide) hv2 (r32 rfl) ?_ ?_
  · refine s_aload_n o dX11_fill_77 rfl 1 rfl ?_
    refine s_tga (x := 81) o hT tf_cellSorts ta_cellSorts (lw_all_tbl q2596) dX11_fill_78 ?_
    refine s_iload_n o dX11_fill_81 rfl 3 rfl ?_
    refine r_tiald o hT tr_cellSorts hl2 dX11_fill_82 (fun v3 hv3 => ?_)
    refine s_iconst o dX11_fill_83 ?_
    refine s_icmp_ne (tgt := 91) o dX11_fill_84 (by decide) hv3 (r32 rfl) ?_ ?_
    · refine s_iconst o dX11_fill_91 ?_
      refine r_to [(0, vA (mg Γ) 21), (1, vI l1), (2, vI l2), (3, vI v1)] [1, 2, 3, 0] rfl ?_
      exact st_fill_92 hT o l1 l2 v1 0 hl1 hl2 hv1 (Or.inl rfl)
    · refine s_iconst o dX11_fill_87 ?_
      refine s_goto (tgt := 92) o dX11_fill_88 (by decide) ?_
      refine r_to [(0, vA (mg Γ) 21), (1, vI l1), (2, vI l2), (3, vI v1)] [1, 2, 3, 0] rfl ?_
      exact st_fill_92 hT o l1 l2 v1 1 hl1 hl2 hv1 (Or.inr rfl)
  · refine s_iconst o dX11_fill_17 ?_
    refine r_istore o dX11_fill_18 rfl ⟨(Nat.ne_of_beq_eq_false rfl), (fun _ => rfl), ⟨(Nat.ne_of_beq_eq_false rfl), (fun _ => (vA_cat (mg Γ) 21)), ⟨(Nat.ne_of_beq_eq_false rfl), (fun _ => rfl), ⟨(Nat.ne_of_beq_eq_false rfl), (fun _ => rfl), trivial⟩⟩⟩⟩ ?_
    refine s_iconst o dX11_fill_20 ?_
    refine r_istore o dX11_fill_21 rfl ⟨(Nat.ne_of_beq_eq_false rfl), (fun _ => rfl), ⟨(Nat.ne_of_beq_eq_false rfl), (fun _ => rfl), ⟨(Nat.ne_of_beq_eq_false rfl), (fun _ => (vA_cat (mg Γ) 21)), ⟨(Nat.ne_of_beq_eq_false rfl), (fun _ => rfl), ⟨(Nat.ne_of_beq_eq_false rfl), (fun _ => rfl), trivial⟩⟩⟩⟩⟩ ?_
    refine r_to [(0, vA (mg Γ) 21), (1, vI l1), (3, vI v1), (4, vI 0), (5, vI 0)] [3, 4, 2, 1, 0] rfl ?_
    refine st_fill_23 hT o _ ?_ l1 v1 0 0 hl1 hv1 (r32 rfl) (r32 rfl)
    · exact s_vret o rfl dX11_fill_76 (fun _ hh => hh)
theorem dX11_putRow_0 : decode cX11_putRow 0 = .ok (.aload_n 0, 1) := by decide +kernel
theorem dX11_putRow_1 : decode cX11_putRow 1 = .ok (.getfield 760, 3) := by decide +kernel
theorem dX11_putRow_4 : decode cX11_putRow 4 = .ok (.iload_n 3, 1) := by decide +kernel
theorem dX11_putRow_5 : decode cX11_putRow 5 = .ok (.iadd, 1) := by decide +kernel
theorem dX11_putRow_6 : decode cX11_putRow 6 = .ok (.sipush 1000, 3) := by decide +kernel
theorem dX11_putRow_9 : decode cX11_putRow 9 = .ok (.if_icmp .le 11, 3) := by decide +kernel
theorem dX11_putRow_12 : decode cX11_putRow 12 = .ok (.aload_n 0, 1) := by decide +kernel
theorem dX11_putRow_13 : decode cX11_putRow 13 = .ok (.iconst 3, 1) := by decide +kernel
theorem dX11_putRow_14 : decode cX11_putRow 14 = .ok (.iconst 3, 1) := by decide +kernel
theorem dX11_putRow_15 : decode cX11_putRow 15 = .ok (.invokevirtual 629, 3) := by decide +kernel
theorem dX11_putRow_18 : decode cX11_putRow 18 = .ok (.iconst 0, 1) := by decide +kernel
theorem dX11_putRow_19 : decode cX11_putRow 19 = .ok (.ireturn, 1) := by decide +kernel
theorem dX11_putRow_20 : decode cX11_putRow 20 = .ok (.aload_n 0, 1) := by decide +kernel
theorem dX11_putRow_21 : decode cX11_putRow 21 = .ok (.getfield 215, 3) := by decide +kernel
theorem dX11_putRow_24 : decode cX11_putRow 24 = .ok (.aload_n 0, 1) := by decide +kernel
theorem dX11_putRow_25 : decode cX11_putRow 25 = .ok (.getfield 760, 3) := by decide +kernel
theorem dX11_putRow_28 : decode cX11_putRow 28 = .ok (.iload_n 1, 1) := by decide +kernel
theorem dX11_putRow_29 : decode cX11_putRow 29 = .ok (.iastore, 1) := by decide +kernel
theorem dX11_putRow_30 : decode cX11_putRow 30 = .ok (.aload_n 0, 1) := by decide +kernel
theorem dX11_putRow_31 : decode cX11_putRow 31 = .ok (.dup, 1) := by decide +kernel
theorem dX11_putRow_32 : decode cX11_putRow 32 = .ok (.getfield 760, 3) := by decide +kernel
theorem dX11_putRow_35 : decode cX11_putRow 35 = .ok (.iconst 1, 1) := by decide +kernel
theorem dX11_putRow_36 : decode cX11_putRow 36 = .ok (.iadd, 1) := by decide +kernel
theorem dX11_putRow_37 : decode cX11_putRow 37 = .ok (.putfield 760, 3) := by decide +kernel
theorem dX11_putRow_40 : decode cX11_putRow 40 = .ok (.iload_n 3, 1) := by decide +kernel
theorem dX11_putRow_41 : decode cX11_putRow 41 = .ok (.iconst 1, 1) := by decide +kernel
theorem dX11_putRow_42 : decode cX11_putRow 42 = .ok (.if_icmp .le 23, 3) := by decide +kernel
theorem dX11_putRow_45 : decode cX11_putRow 45 = .ok (.aload_n 0, 1) := by decide +kernel
theorem dX11_putRow_46 : decode cX11_putRow 46 = .ok (.getfield 215, 3) := by decide +kernel
theorem dX11_putRow_49 : decode cX11_putRow 49 = .ok (.aload_n 0, 1) := by decide +kernel
theorem dX11_putRow_50 : decode cX11_putRow 50 = .ok (.getfield 760, 3) := by decide +kernel
theorem dX11_putRow_53 : decode cX11_putRow 53 = .ok (.iload_n 2, 1) := by decide +kernel
theorem dX11_putRow_54 : decode cX11_putRow 54 = .ok (.iastore, 1) := by decide +kernel
theorem dX11_putRow_55 : decode cX11_putRow 55 = .ok (.aload_n 0, 1) := by decide +kernel
theorem dX11_putRow_56 : decode cX11_putRow 56 = .ok (.dup, 1) := by decide +kernel
theorem dX11_putRow_57 : decode cX11_putRow 57 = .ok (.getfield 760, 3) := by decide +kernel
theorem dX11_putRow_60 : decode cX11_putRow 60 = .ok (.iconst 1, 1) := by decide +kernel
theorem dX11_putRow_61 : decode cX11_putRow 61 = .ok (.iadd, 1) := by decide +kernel
theorem dX11_putRow_62 : decode cX11_putRow 62 = .ok (.putfield 760, 3) := by decide +kernel
theorem dX11_putRow_65 : decode cX11_putRow 65 = .ok (.iconst 1, 1) := by decide +kernel
theorem dX11_putRow_66 : decode cX11_putRow 66 = .ok (.ireturn, 1) := by decide +kernel
theorem mw_X11_putRow : MW yX11_putRow (Cond.code yX11_putRow cX11_putRow 4 (Option.some Jvm.ClassFile.FieldType.boolean)) cX11_putRow 4 (Option.some Jvm.ClassFile.FieldType.boolean) 3 := ⟨rfl, ⟨(lw_all_tbl q3351), rfl, (lw_all_tbl q173)⟩, rfl, ⟨by decide, by decide⟩, by decide +kernel⟩
noncomputable def t_putRow (l1 : Int) (l2 : Int) (l3 : Int) : Mo TS Int :=
  bnd (gs 113) fun v1 =>
  if (w32 (v1 + l3)) ≤ 1000 then
    bnd (gs 113) fun v2 =>
    bnd (wr 114 1000 v2 l1) fun _ =>
    bnd (gs 113) fun v3 =>
    bnd (ss 113 (w32 (v3 + 1))) fun _ =>
    if l3 ≤ 1 then
      pr 1
    else
      bnd (gs 113) fun v4 =>
      bnd (wr 114 1000 v4 l2) fun _ =>
      bnd (gs 113) fun v5 =>
      bnd (ss 113 (w32 (v5 + 1))) fun _ =>
      pr 1
  else
    bnd (t_ends 3 3) fun _ =>
    pr 0
theorem st_putRow (g : gC) (d : Nat) (h : CH) (hT : HT h) (l1 : Int) (l2 : Int) (l3 : Int) (hl1 : R32 l1) (hl2 : R32 l2) (hl3 : R32 l3) : SF g yX11_putRow (Cond.code yX11_putRow cX11_putRow 4 (Option.some Jvm.ClassFile.FieldType.boolean)) (Option.some Jvm.ClassFile.FieldType.boolean) (d + 1) [vA g 21, vI l1, vI l2, vI l3] (fun t => (h, t)) (t_putRow l1 l2 l3) := by
  refine SF.of (lv := [(0, vA g 21), (1, vI l1), (2, vI l2), (3, vI l3)]) (by decide) (wt_A (wt_I (wt_I (wt_I wt_0)))) rfl (by simp only [la_A, la_I, la_J, la_0]) (fun Γ hg hnm o => ?_)
  subst hg
  have o : Ok Γ "LazyForgeModel" cX11_putRow 4 (Option.some Jvm.ClassFile.FieldType.boolean) (d + 1) := o
  unfold t_putRow
  refine s_aload_n o dX11_putRow_0 rfl 0 rfl ?_
  refine r_tgf vI rfl o hT tf_rowCounted tj_rowCounted (lw_all_tbl q2617) dX11_putRow_1 (fun v1 hv1 => ?_)
  refine s_iload_n o dX11_putRow_4 rfl 3 rfl ?_
  refine s_iadd o dX11_putRow_5 ?_
  refine s_sipush o dX11_putRow_6 rfl ?_
  refine s_icmp_le (tgt := 20) o dX11_putRow_9 (by decide) (w32_R _) (r32 rfl) ?_ ?_
  · refine s_aload_n o dX11_putRow_20 rfl 0 rfl ?_
    refine s_tga (x := 88) o hT tf_row ta_row (lw_all_tbl q2618) dX11_putRow_21 ?_
    refine s_aload_n o dX11_putRow_24 rfl 0 rfl ?_
    refine r_tgf vI rfl o hT tf_rowCounted tj_rowCounted (lw_all_tbl q2617) dX11_putRow_25 (fun v2 hv2 => ?_)
    refine s_iload_n o dX11_putRow_28 rfl 1 rfl ?_
    refine r_tiast o hT tr_row hv2 hl1 dX11_putRow_29 ?_
    refine s_aload_n o dX11_putRow_30 rfl 0 rfl ?_
    refine s_dup o dX11_putRow_31 (vA_cat (mg Γ) 21) ?_
    refine r_tgf vI rfl o hT tf_rowCounted tj_rowCounted (lw_all_tbl q2617) dX11_putRow_32 (fun v3 hv3 => ?_)
    refine s_iconst o dX11_putRow_35 ?_
    refine s_iadd o dX11_putRow_36 ?_
    refine r_tpf vI rfl o hT tf_rowCounted tj_rowCounted (lw_all_tbl q2617) dX11_putRow_37 (w32_R _) ty_int ?_
    refine s_iload_n o dX11_putRow_40 rfl 3 rfl ?_
    refine s_iconst o dX11_putRow_41 ?_
    refine s_icmp_le (tgt := 65) o dX11_putRow_42 (by decide) hl3 (r32 rfl) ?_ ?_
    · refine s_iconst o dX11_putRow_65 ?_
      exact s_iret o rfl i_boolean (Or.inr rfl) dX11_putRow_66 (fun _ hh => hh)
    · refine s_aload_n o dX11_putRow_45 rfl 0 rfl ?_
      refine s_tga (x := 88) o hT tf_row ta_row (lw_all_tbl q2618) dX11_putRow_46 ?_
      refine s_aload_n o dX11_putRow_49 rfl 0 rfl ?_
      refine r_tgf vI rfl o hT tf_rowCounted tj_rowCounted (lw_all_tbl q2617) dX11_putRow_50 (fun v4 hv4 => ?_)
      refine s_iload_n o dX11_putRow_53 rfl 2 rfl ?_
      refine r_tiast o hT tr_row hv4 hl2 dX11_putRow_54 ?_
      refine s_aload_n o dX11_putRow_55 rfl 0 rfl ?_
      refine s_dup o dX11_putRow_56 (vA_cat (mg Γ) 21) ?_
      refine r_tgf vI rfl o hT tf_rowCounted tj_rowCounted (lw_all_tbl q2617) dX11_putRow_57 (fun v5 hv5 => ?_)
      refine s_iconst o dX11_putRow_60 ?_
      refine s_iadd o dX11_putRow_61 ?_
      refine r_tpf vI rfl o hT tf_rowCounted tj_rowCounted (lw_all_tbl q2617) dX11_putRow_62 (w32_R _) ty_int ?_
      refine s_iconst o dX11_putRow_65 ?_
      exact s_iret o rfl i_boolean (Or.inr rfl) dX11_putRow_66 (fun _ hh => hh)
  · refine s_aload_n o dX11_putRow_12 rfl 0 rfl ?_
    refine s_iconst o dX11_putRow_13 ?_
    refine s_iconst o dX11_putRow_14 ?_
    refine s_cv (d := d + 0) (C := "LazyForgeModel") (As := [vI 3, vI 3]) (st := []) o (st_ends (mg Γ) d h hT 3 3 (r32 rfl) (r32 rfl)) mw_X11_ends rfl (Or.inl (lw_all_tbl q3238)) (lw_all_tbl qs126) (lw_all_tbl q3240) (fun t => rc_t o hT t) wt_0 rfl dX11_putRow_15 rfl (rs := fun _ => []) (fun _ => rfl) (fun _ _ => ?_)
    refine s_iconst o dX11_putRow_18 ?_
    exact s_iret o rfl i_boolean (Or.inl rfl) dX11_putRow_19 (fun _ hh => hh)
theorem dX11_signs_0 : decode cX11_signs 0 = .ok (.bipush 56, 2) := by decide +kernel
theorem dX11_signs_2 : decode cX11_signs 2 = .ok (.istore_n 3, 1) := by decide +kernel
theorem dX11_signs_3 : decode cX11_signs 3 = .ok (.iload_n 3, 1) := by decide +kernel
theorem dX11_signs_4 : decode cX11_signs 4 = .ok (.ifCond .lt 30, 3) := by decide +kernel
theorem dX11_signs_7 : decode cX11_signs 7 = .ok (.lload_n 1, 1) := by decide +kernel
theorem dX11_signs_8 : decode cX11_signs 8 = .ok (.iload_n 3, 1) := by decide +kernel
theorem dX11_signs_9 : decode cX11_signs 9 = .ok (.lshr, 1) := by decide +kernel
theorem dX11_signs_10 : decode cX11_signs 10 = .ok (.l2i, 1) := by decide +kernel
theorem dX11_signs_11 : decode cX11_signs 11 = .ok (.sipush 255, 3) := by decide +kernel
theorem dX11_signs_14 : decode cX11_signs 14 = .ok (.iand, 1) := by decide +kernel
theorem dX11_signs_15 : decode cX11_signs 15 = .ok (.istore 4, 2) := by decide +kernel
theorem dX11_signs_17 : decode cX11_signs 17 = .ok (.iload 4, 2) := by decide +kernel
theorem dX11_signs_19 : decode cX11_signs 19 = .ok (.ifCond .eq 9, 3) := by decide +kernel
theorem dX11_signs_22 : decode cX11_signs 22 = .ok (.aload_n 0, 1) := by decide +kernel
theorem dX11_signs_23 : decode cX11_signs 23 = .ok (.iload 4, 2) := by decide +kernel
theorem dX11_signs_25 : decode cX11_signs 25 = .ok (.invokevirtual 783, 3) := by decide +kernel
theorem dX11_signs_28 : decode cX11_signs 28 = .ok (.iinc 3 (-8), 3) := by decide +kernel
theorem dX11_signs_31 : decode cX11_signs 31 = .ok (.goto (-28), 3) := by decide +kernel
theorem dX11_signs_34 : decode cX11_signs 34 = .ok (.return_, 1) := by decide +kernel
theorem mw_X11_signs : MW yX11_signs (Cond.code yX11_signs cX11_signs 5 (Option.none : Option Jvm.ClassFile.FieldType)) cX11_signs 5 (Option.none : Option Jvm.ClassFile.FieldType) 1 := ⟨rfl, ⟨(lw_all_tbl q3375), rfl, (lw_all_tbl q173)⟩, rfl, ⟨by decide, by decide⟩, by decide +kernel⟩
abbrev okt_signs_3 (x : Int × Int) : Prop := R64 x.1 ∧ R32 x.2
abbrev lvt_signs_3 (Γ : Gm) (x : Int × Int) : List (Nat × Value) := [(0, vA (mg Γ) 21), (1, vJ x.1), (3, vI x.2)]
noncomputable def t_signs_28 {A : Type} (k_34 : Mo TS A) (l1 : Int) (l3 : Int) : Mo TS ((Int × Int) ⊕ A) :=
  pr (.inl (l1, (w32 (l3 + (-8)))))
theorem st_signs_28 {Γ : Gm} {h : CH} {d : Nat} (hT : HT h) (o : Ok Γ "LazyForgeModel" cX11_signs 5 (Option.none : Option Jvm.ClassFile.FieldType) (d + 1)) {A : Type} {K : A → TS → Prop}  (k_34 : Mo TS A) (hk_34 : Sx Γ (fun t => (h, t)) K 34 [] [] (k_34)) (l1 : Int) (l3 : Int) (hl1 : R64 l1) (hl3 : R32 l3) : Sx Γ (fun t => (h, t)) (KL Γ (fun t => (h, t)) okt_signs_3 K 3 (lvt_signs_3 Γ) []) 28 [(0, vA (mg Γ) 21), (1, vJ l1), (3, vI l3)] [] (t_signs_28 k_34 l1 l3) := by
  unfold t_signs_28
  refine r_iinc (j := 2) o dX11_signs_28 rfl rfl [(0, vA (mg Γ) 21), (1, vJ l1)] [0, 1] rfl ⟨(Nat.ne_of_beq_eq_false rfl), (fun _ => (vA_cat (mg Γ) 21)), ⟨(Nat.ne_of_beq_eq_false rfl), (fun e => absurd e (Nat.ne_of_beq_eq_false rfl)), trivial⟩⟩ ?_
  refine s_goto (tgt := 3) o dX11_signs_31 (by decide) ?_
  refine r_to [(0, vA (mg Γ) 21), (1, vJ l1), (3, vI (w32 (l3 + (-8))))] [1, 2, 0] rfl ?_
  exact s_back (⟨hl1, (w32_R _)⟩) rfl
noncomputable def t_signs_3b {A : Type} (k_34 : Mo TS A) (l1 : Int) (l3 : Int) : Mo TS ((Int × Int) ⊕ A) :=
  if l3 < 0 then
    lo k_34
  else
    if (iand (l2i (lshr l1 l3)) 255) = 0 then
      t_signs_28 k_34 l1 l3
    else
      bnd (t_letters (iand (l2i (lshr l1 l3)) 255)) fun _ =>
      t_signs_28 k_34 l1 l3
theorem st_signs_3b {Γ : Gm} {h : CH} {d : Nat} (hT : HT h) (o : Ok Γ "LazyForgeModel" cX11_signs 5 (Option.none : Option Jvm.ClassFile.FieldType) (d + 1)) {A : Type} {K : A → TS → Prop} (k_34 : Mo TS A) (hk_34 : Sx Γ (fun t => (h, t)) K 34 [] [] (k_34)) (l1 : Int) (l3 : Int) (hl1 : R64 l1) (hl3 : R32 l3) : Sx Γ (fun t => (h, t)) (KL Γ (fun t => (h, t)) okt_signs_3 K 3 (lvt_signs_3 Γ) []) 3 [(0, vA (mg Γ) 21), (1, vJ l1), (3, vI l3)] [] (t_signs_3b k_34 l1 l3) := by
  unfold t_signs_3b
  refine s_iload_n o dX11_signs_3 rfl 2 rfl ?_
  refine s_if_lt (tgt := 34) o dX11_signs_4 (by decide) hl3 ?_ ?_
  · refine r_to [] [] rfl ?_
    exact s_lo hk_34
  · refine s_lload_n o dX11_signs_7 rfl 1 rfl ?_
    refine s_iload_n o dX11_signs_8 rfl 2 rfl ?_
    refine s_lshr o dX11_signs_9 ?_
    refine s_l2i o dX11_signs_10 ?_
    refine s_sipush o dX11_signs_11 rfl ?_
    refine s_iand o dX11_signs_14 ?_
    refine r_istore o dX11_signs_15 rfl ⟨(Nat.ne_of_beq_eq_false rfl), (fun _ => (vA_cat (mg Γ) 21)), ⟨(Nat.ne_of_beq_eq_false rfl), (fun e => absurd e (Nat.ne_of_beq_eq_false rfl)), ⟨(Nat.ne_of_beq_eq_false rfl), (fun _ => rfl), trivial⟩⟩⟩ ?_
    refine s_iload o dX11_signs_17 0 rfl ?_
    refine s_if_eq (tgt := 28) o dX11_signs_19 (by decide) (iand_R _ _) ?_ ?_
    · refine r_to [(0, vA (mg Γ) 21), (1, vJ l1), (3, vI l3)] [1, 2, 3] rfl ?_
      exact st_signs_28 hT o k_34 hk_34 l1 l3 hl1 hl3
    · refine s_aload_n o dX11_signs_22 rfl 1 rfl ?_
      refine s_iload o dX11_signs_23 0 rfl ?_
      refine s_cv (d := d + 0) (C := "LazyForgeModel") (As := [vI (iand (l2i (lshr l1 l3)) 255)]) (st := []) o (st_letters (mg Γ) d h hT (iand (l2i (lshr l1 l3)) 255) (iand_R _ _)) mw_X11_letters rfl (Or.inl (lw_all_tbl q3376)) (lw_all_tbl qs152) (lw_all_tbl q3378) (fun t => rc_t o hT t) wt_0 rfl dX11_signs_25 rfl (rs := fun _ => []) (fun _ => rfl) (fun _ _ => ?_)
      refine r_to [(0, vA (mg Γ) 21), (1, vJ l1), (3, vI l3)] [1, 2, 3] rfl ?_
      exact st_signs_28 hT o k_34 hk_34 l1 l3 hl1 hl3
noncomputable def t_signs_3 {A : Type} (k_34 : Mo TS A) (l1 : Int) (l3 : Int) : Mo TS A := Loop (fun x => t_signs_3b k_34 x.1 x.2) (l1, l3)
theorem st_signs_3 {Γ : Gm} {h : CH} {d : Nat} (hT : HT h) (o : Ok Γ "LazyForgeModel" cX11_signs 5 (Option.none : Option Jvm.ClassFile.FieldType) (d + 1)) {A : Type} {K : A → TS → Prop} (k_34 : Mo TS A) (hk_34 : Sx Γ (fun t => (h, t)) K 34 [] [] (k_34)) (l1 : Int) (l3 : Int) (hl1 : R64 l1) (hl3 : R32 l3) : Sx Γ (fun t => (h, t)) K 3 [(0, vA (mg Γ) 21), (1, vJ l1), (3, vI l3)] [] (t_signs_3 k_34 l1 l3) :=
  s_loop okt_signs_3 (lvt_signs_3 Γ) (fun x hx => st_signs_3b hT o k_34 hk_34 x.1 x.2 hx.1 hx.2) (x := (l1, l3)) ⟨hl1, hl3⟩
noncomputable def t_signs (l1 : Int) : Mo TS Int :=
  t_signs_3
    (pr 0) l1 56
theorem st_signs (g : gC) (d : Nat) (h : CH) (hT : HT h) (l1 : Int) (hl1 : R64 l1) : SF g yX11_signs (Cond.code yX11_signs cX11_signs 5 (Option.none : Option Jvm.ClassFile.FieldType)) (Option.none : Option Jvm.ClassFile.FieldType) (d + 1) [vA g 21, vJ l1] (fun t => (h, t)) (t_signs l1) := by
  refine SF.of (lv := [(0, vA g 21), (1, vJ l1)]) (by decide) (wt_A (wt_J wt_0)) rfl (by simp only [la_A, la_I, la_J, la_0]) (fun Γ hg hnm o => ?_)
  subst hg
  have o : Ok Γ "LazyForgeModel" cX11_signs 5 (Option.none : Option Jvm.ClassFile.FieldType) (d + 1) := o
  unfold t_signs
  refine s_bipush o dX11_signs_0 rfl ?_
  refine r_istore_n o dX11_signs_2 rfl rfl ⟨(Nat.ne_of_beq_eq_false rfl), (fun _ => (vA_cat (mg Γ) 21)), ⟨(Nat.ne_of_beq_eq_false rfl), (fun e => absurd e (Nat.ne_of_beq_eq_false rfl)), trivial⟩⟩ ?_
  refine r_to [(0, vA (mg Γ) 21), (1, vJ l1), (3, vI 56)] [1, 2, 0] rfl ?_
  refine st_signs_3 hT o _ ?_ l1 56 hl1 (r32 rfl)
  · exact s_vret o rfl dX11_signs_34 (fun _ hh => hh)
theorem dX11_digits_0 : decode cX11_digits 0 = .ok (.iconst 1, 1) := by decide +kernel
theorem dX11_digits_1 : decode cX11_digits 1 = .ok (.istore_n 2, 1) := by decide +kernel
theorem dX11_digits_2 : decode cX11_digits 2 = .ok (.iload_n 1, 1) := by decide +kernel
theorem dX11_digits_3 : decode cX11_digits 3 = .ok (.iload_n 2, 1) := by decide +kernel
theorem dX11_digits_4 : decode cX11_digits 4 = .ok (.idiv, 1) := by decide +kernel
theorem dX11_digits_5 : decode cX11_digits 5 = .ok (.bipush 9, 2) := by decide +kernel
theorem dX11_digits_7 : decode cX11_digits 7 = .ok (.if_icmp .le 11, 3) := by decide +kernel
theorem dX11_digits_10 : decode cX11_digits 10 = .ok (.iload_n 2, 1) := by decide +kernel
theorem dX11_digits_11 : decode cX11_digits 11 = .ok (.bipush 10, 2) := by decide +kernel
theorem dX11_digits_13 : decode cX11_digits 13 = .ok (.imul, 1) := by decide +kernel
theorem dX11_digits_14 : decode cX11_digits 14 = .ok (.istore_n 2, 1) := by decide +kernel
theorem dX11_digits_15 : decode cX11_digits 15 = .ok (.goto (-13), 3) := by decide +kernel
theorem dX11_digits_18 : decode cX11_digits 18 = .ok (.iload_n 2, 1) := by decide +kernel
theorem dX11_digits_19 : decode cX11_digits 19 = .ok (.istore_n 3, 1) := by decide +kernel
theorem dX11_digits_20 : decode cX11_digits 20 = .ok (.iload_n 3, 1) := by decide +kernel
theorem dX11_digits_21 : decode cX11_digits 21 = .ok (.ifCond .le 24, 3) := by decide +kernel
theorem dX11_digits_24 : decode cX11_digits 24 = .ok (.aload_n 0, 1) := by decide +kernel
theorem dX11_digits_25 : decode cX11_digits 25 = .ok (.bipush 48, 2) := by decide +kernel
theorem dX11_digits_27 : decode cX11_digits 27 = .ok (.iload_n 1, 1) := by decide +kernel
theorem dX11_digits_28 : decode cX11_digits 28 = .ok (.iload_n 3, 1) := by decide +kernel
theorem dX11_digits_29 : decode cX11_digits 29 = .ok (.idiv, 1) := by decide +kernel
theorem dX11_digits_30 : decode cX11_digits 30 = .ok (.bipush 10, 2) := by decide +kernel
theorem dX11_digits_32 : decode cX11_digits 32 = .ok (.irem, 1) := by decide +kernel
theorem dX11_digits_33 : decode cX11_digits 33 = .ok (.iadd, 1) := by decide +kernel
theorem dX11_digits_34 : decode cX11_digits 34 = .ok (.invokevirtual 783, 3) := by decide +kernel
theorem dX11_digits_37 : decode cX11_digits 37 = .ok (.iload_n 3, 1) := by decide +kernel
theorem dX11_digits_38 : decode cX11_digits 38 = .ok (.bipush 10, 2) := by decide +kernel
theorem dX11_digits_40 : decode cX11_digits 40 = .ok (.idiv, 1) := by decide +kernel
theorem dX11_digits_41 : decode cX11_digits 41 = .ok (.istore_n 3, 1) := by decide +kernel
theorem dX11_digits_42 : decode cX11_digits 42 = .ok (.goto (-22), 3) := by decide +kernel
theorem dX11_digits_45 : decode cX11_digits 45 = .ok (.return_, 1) := by decide +kernel
theorem mw_X11_digits : MW yX11_digits (Cond.code yX11_digits cX11_digits 4 (Option.none : Option Jvm.ClassFile.FieldType)) cX11_digits 4 (Option.none : Option Jvm.ClassFile.FieldType) 1 := ⟨rfl, ⟨(lw_all_tbl q3383), rfl, (lw_all_tbl q173)⟩, rfl, ⟨by decide, by decide⟩, by decide +kernel⟩
abbrev okt_digits_2 (x : Int × Int) : Prop := R32 x.1 ∧ R32 x.2
abbrev lvt_digits_2 (Γ : Gm) (x : Int × Int) : List (Nat × Value) := [(0, vA (mg Γ) 21), (1, vI x.1), (2, vI x.2)]
noncomputable def t_digits_2b {A : Type} (k_18 : Int → Int → Mo TS A) (l1 : Int) (l2 : Int) : Mo TS ((Int × Int) ⊕ A) :=
  nz l2
  (if (idv l1 l2) ≤ 9 then
    lo (k_18 l1 l2)
  else
    pr (.inl (l1, (w32 (l2 * 10)))))
theorem st_digits_2b {Γ : Gm} {h : CH} {d : Nat} (hT : HT h) (o : Ok Γ "LazyForgeModel" cX11_digits 4 (Option.none : Option Jvm.ClassFile.FieldType) (d + 1)) {A : Type} {K : A → TS → Prop} (k_18 : Int → Int → Mo TS A) (hk_18 : ∀ (l1 : Int) (l2 : Int), R32 l1 → R32 l2 → Sx Γ (fun t => (h, t)) K 18 [(0, vA (mg Γ) 21), (1, vI l1), (2, vI l2)] [] (k_18 l1 l2)) (l1 : Int) (l2 : Int) (hl1 : R32 l1) (hl2 : R32 l2) : Sx Γ (fun t => (h, t)) (KL Γ (fun t => (h, t)) okt_digits_2 K 2 (lvt_digits_2 Γ) []) 2 [(0, vA (mg Γ) 21), (1, vI l1), (2, vI l2)] [] (t_digits_2b k_18 l1 l2) := by
  unfold t_digits_2b
  refine s_iload_n o dX11_digits_2 rfl 1 rfl ?_
  refine s_iload_n o dX11_digits_3 rfl 2 rfl ?_
  refine s_nz (fun z0 => ?_)
  refine s_idiv o dX11_digits_4 hl2 z0 ?_
  refine s_bipush o dX11_digits_5 rfl ?_
  refine s_icmp_le (tgt := 18) o dX11_digits_7 (by decide) (idv_R _ _) (r32 rfl) ?_ ?_
  · exact s_lo (hk_18 l1 l2 hl1 hl2)
  · refine s_iload_n o dX11_digits_10 rfl 2 rfl ?_
    refine s_bipush o dX11_digits_11 rfl ?_
    refine s_imul o dX11_digits_13 ?_
    refine r_istore_nP o dX11_digits_14 rfl rfl [(0, vA (mg Γ) 21), (1, vI l1)] [0, 1] rfl ⟨(Nat.ne_of_beq_eq_false rfl), (fun _ => (vA_cat (mg Γ) 21)), ⟨(Nat.ne_of_beq_eq_false rfl), (fun _ => rfl), trivial⟩⟩ ?_
    refine s_goto (tgt := 2) o dX11_digits_15 (by decide) ?_
    refine r_to [(0, vA (mg Γ) 21), (1, vI l1), (2, vI (w32 (l2 * 10)))] [1, 2, 0] rfl ?_
    exact s_back (⟨hl1, (w32_R _)⟩) rfl
noncomputable def t_digits_2 {A : Type} (k_18 : Int → Int → Mo TS A) (l1 : Int) (l2 : Int) : Mo TS A := Loop (fun x => t_digits_2b k_18 x.1 x.2) (l1, l2)
theorem st_digits_2 {Γ : Gm} {h : CH} {d : Nat} (hT : HT h) (o : Ok Γ "LazyForgeModel" cX11_digits 4 (Option.none : Option Jvm.ClassFile.FieldType) (d + 1)) {A : Type} {K : A → TS → Prop} (k_18 : Int → Int → Mo TS A) (hk_18 : ∀ (l1 : Int) (l2 : Int), R32 l1 → R32 l2 → Sx Γ (fun t => (h, t)) K 18 [(0, vA (mg Γ) 21), (1, vI l1), (2, vI l2)] [] (k_18 l1 l2)) (l1 : Int) (l2 : Int) (hl1 : R32 l1) (hl2 : R32 l2) : Sx Γ (fun t => (h, t)) K 2 [(0, vA (mg Γ) 21), (1, vI l1), (2, vI l2)] [] (t_digits_2 k_18 l1 l2) :=
  s_loop okt_digits_2 (lvt_digits_2 Γ) (fun x hx => st_digits_2b hT o k_18 hk_18 x.1 x.2 hx.1 hx.2) (x := (l1, l2)) ⟨hl1, hl2⟩
abbrev okt_digits_20 (x : Int × Int) : Prop := R32 x.1 ∧ R32 x.2
abbrev lvt_digits_20 (Γ : Gm) (x : Int × Int) : List (Nat × Value) := [(0, vA (mg Γ) 21), (1, vI x.1), (3, vI x.2)]
noncomputable def t_digits_20b {A : Type} (k_45 : Mo TS A) (l1 : Int) (l3 : Int) : Mo TS ((Int × Int) ⊕ A) :=
  if l3 ≤ 0 then
    lo k_45
  else
    nz l3
    (bnd (t_letters (w32 (48 + (irm (idv l1 l3) 10)))) fun _ =>
    pr (.inl (l1, (idv l3 10))))
theorem st_digits_20b {Γ : Gm} {h : CH} {d : Nat} (hT : HT h) (o : Ok Γ "LazyForgeModel" cX11_digits 4 (Option.none : Option Jvm.ClassFile.FieldType) (d + 1)) {A : Type} {K : A → TS → Prop} (k_45 : Mo TS A) (hk_45 : Sx Γ (fun t => (h, t)) K 45 [] [] (k_45)) (l1 : Int) (l3 : Int) (hl1 : R32 l1) (hl3 : R32 l3) : Sx Γ (fun t => (h, t)) (KL Γ (fun t => (h, t)) okt_digits_20 K 20 (lvt_digits_20 Γ) []) 20 [(0, vA (mg Γ) 21), (1, vI l1), (3, vI l3)] [] (t_digits_20b k_45 l1 l3) := by
  unfold t_digits_20b
  refine s_iload_n o dX11_digits_20 rfl 2 rfl ?_
  refine s_if_le (tgt := 45) o dX11_digits_21 (by decide) hl3 ?_ ?_
  · refine r_to [] [] rfl ?_
    exact s_lo hk_45
  · refine s_aload_n o dX11_digits_24 rfl 0 rfl ?_
    refine s_bipush o dX11_digits_25 rfl ?_
    refine s_iload_n o dX11_digits_27 rfl 1 rfl ?_
    refine s_iload_n o dX11_digits_28 rfl 2 rfl ?_
    refine s_nz (fun z0 => ?_)
    refine s_idiv o dX11_digits_29 hl3 z0 ?_
    refine s_bipush o dX11_digits_30 rfl ?_
    refine s_irem o dX11_digits_32 (r32 rfl) (by decide) ?_
    refine s_iadd o dX11_digits_33 ?_
    refine s_cv (d := d + 0) (C := "LazyForgeModel") (As := [vI (w32 (48 + (irm (idv l1 l3) 10)))]) (st := []) o (st_letters (mg Γ) d h hT (w32 (48 + (irm (idv l1 l3) 10))) (w32_R _)) mw_X11_letters rfl (Or.inl (lw_all_tbl q3376)) (lw_all_tbl qs152) (lw_all_tbl q3378) (fun t => rc_t o hT t) wt_0 rfl dX11_digits_34 rfl (rs := fun _ => []) (fun _ => rfl) (fun _ _ => ?_)
    refine s_iload_n o dX11_digits_37 rfl 2 rfl ?_
    refine s_bipush o dX11_digits_38 rfl ?_
    refine s_idiv o dX11_digits_40 (r32 rfl) (by decide) ?_
    refine r_istore_nP o dX11_digits_41 rfl rfl [(0, vA (mg Γ) 21), (1, vI l1)] [0, 1] rfl ⟨(Nat.ne_of_beq_eq_false rfl), (fun _ => (vA_cat (mg Γ) 21)), ⟨(Nat.ne_of_beq_eq_false rfl), (fun _ => rfl), trivial⟩⟩ ?_
    refine s_goto (tgt := 20) o dX11_digits_42 (by decide) ?_
    refine r_to [(0, vA (mg Γ) 21), (1, vI l1), (3, vI (idv l3 10))] [1, 2, 0] rfl ?_
    exact s_back (⟨hl1, (idv_R _ _)⟩) rfl
noncomputable def t_digits_20 {A : Type} (k_45 : Mo TS A) (l1 : Int) (l3 : Int) : Mo TS A := Loop (fun x => t_digits_20b k_45 x.1 x.2) (l1, l3)
theorem st_digits_20 {Γ : Gm} {h : CH} {d : Nat} (hT : HT h) (o : Ok Γ "LazyForgeModel" cX11_digits 4 (Option.none : Option Jvm.ClassFile.FieldType) (d + 1)) {A : Type} {K : A → TS → Prop} (k_45 : Mo TS A) (hk_45 : Sx Γ (fun t => (h, t)) K 45 [] [] (k_45)) (l1 : Int) (l3 : Int) (hl1 : R32 l1) (hl3 : R32 l3) : Sx Γ (fun t => (h, t)) K 20 [(0, vA (mg Γ) 21), (1, vI l1), (3, vI l3)] [] (t_digits_20 k_45 l1 l3) :=
  s_loop okt_digits_20 (lvt_digits_20 Γ) (fun x hx => st_digits_20b hT o k_45 hk_45 x.1 x.2 hx.1 hx.2) (x := (l1, l3)) ⟨hl1, hl3⟩
noncomputable def t_digits (l1 : Int) : Mo TS Int :=
  t_digits_2
    (fun v1 v2 => t_digits_20
    (pr 0) v1 v2) l1 1
theorem st_digits (g : gC) (d : Nat) (h : CH) (hT : HT h) (l1 : Int) (hl1 : R32 l1) : SF g yX11_digits (Cond.code yX11_digits cX11_digits 4 (Option.none : Option Jvm.ClassFile.FieldType)) (Option.none : Option Jvm.ClassFile.FieldType) (d + 1) [vA g 21, vI l1] (fun t => (h, t)) (t_digits l1) := by
  refine SF.of (lv := [(0, vA g 21), (1, vI l1)]) (by decide) (wt_A (wt_I wt_0)) rfl (by simp only [la_A, la_I, la_J, la_0]) (fun Γ hg hnm o => ?_)
  subst hg
  have o : Ok Γ "LazyForgeModel" cX11_digits 4 (Option.none : Option Jvm.ClassFile.FieldType) (d + 1) := o
  unfold t_digits
  refine s_iconst o dX11_digits_0 ?_
  refine r_istore_n o dX11_digits_1 rfl rfl ⟨(Nat.ne_of_beq_eq_false rfl), (fun _ => (vA_cat (mg Γ) 21)), ⟨(Nat.ne_of_beq_eq_false rfl), (fun _ => rfl), trivial⟩⟩ ?_
  refine r_to [(0, vA (mg Γ) 21), (1, vI l1), (2, vI 1)] [1, 2, 0] rfl ?_
  refine st_digits_2 hT o _ ?_ l1 1 hl1 (r32 rfl)
  · intro v1 v2 hv1 hv2
    refine s_iload_n o dX11_digits_18 rfl 2 rfl ?_
    refine r_istore_n o dX11_digits_19 rfl rfl ⟨(Nat.ne_of_beq_eq_false rfl), (fun _ => (vA_cat (mg Γ) 21)), ⟨(Nat.ne_of_beq_eq_false rfl), (fun _ => rfl), ⟨(Nat.ne_of_beq_eq_false rfl), (fun _ => rfl), trivial⟩⟩⟩ ?_
    refine r_to [(0, vA (mg Γ) 21), (1, vI v1), (3, vI v2)] [1, 2, 0] rfl ?_
    refine st_digits_20 hT o _ ?_ v1 v2 hv1 hv2
    · exact s_vret o rfl dX11_digits_45 (fun _ hh => hh)
theorem dX11_function_0 : decode cX11_function 0 = .ok (.aload_n 0, 1) := by decide +kernel
theorem dX11_function_1 : decode cX11_function 1 = .ok (.aload_n 0, 1) := by decide +kernel
theorem dX11_function_2 : decode cX11_function 2 = .ok (.iload_n 1, 1) := by decide +kernel
theorem dX11_function_3 : decode cX11_function 3 = .ok (.invokevirtual 811, 3) := by decide +kernel
theorem dX11_function_6 : decode cX11_function 6 = .ok (.putfield 251, 3) := by decide +kernel
theorem dX11_function_9 : decode cX11_function 9 = .ok (.aload_n 0, 1) := by decide +kernel
theorem dX11_function_10 : decode cX11_function 10 = .ok (.aload_n 0, 1) := by decide +kernel
theorem dX11_function_11 : decode cX11_function 11 = .ok (.getfield 251, 3) := by decide +kernel
theorem dX11_function_14 : decode cX11_function 14 = .ok (.ifCond .le 10, 3) := by decide +kernel
theorem dX11_function_17 : decode cX11_function 17 = .ok (.aload_n 0, 1) := by decide +kernel
theorem dX11_function_18 : decode cX11_function 18 = .ok (.getfield 251, 3) := by decide +kernel
theorem dX11_function_21 : decode cX11_function 21 = .ok (.goto 17, 3) := by decide +kernel
theorem dX11_function_24 : decode cX11_function 24 = .ok (.iload_n 2, 1) := by decide +kernel
theorem dX11_function_25 : decode cX11_function 25 = .ok (.ifCond .lt 8, 3) := by decide +kernel
theorem dX11_function_28 : decode cX11_function 28 = .ok (.iload_n 2, 1) := by decide +kernel
theorem dX11_function_29 : decode cX11_function 29 = .ok (.iconst 5, 1) := by decide +kernel
theorem dX11_function_30 : decode cX11_function 30 = .ok (.if_icmp .le 7, 3) := by decide +kernel
theorem dX11_function_33 : decode cX11_function 33 = .ok (.iconst 3, 1) := by decide +kernel
theorem dX11_function_34 : decode cX11_function 34 = .ok (.goto 4, 3) := by decide +kernel
theorem dX11_function_37 : decode cX11_function 37 = .ok (.iconst 0, 1) := by decide +kernel
theorem dX11_function_38 : decode cX11_function 38 = .ok (.putfield 251, 3) := by decide +kernel
theorem dX11_function_41 : decode cX11_function 41 = .ok (.aload_n 0, 1) := by decide +kernel
theorem dX11_function_42 : decode cX11_function 42 = .ok (.getfield 251, 3) := by decide +kernel
theorem dX11_function_45 : decode cX11_function 45 = .ok (.ifCond .le 5, 3) := by decide +kernel
theorem dX11_function_48 : decode cX11_function 48 = .ok (.iconst 0, 1) := by decide +kernel
theorem dX11_function_49 : decode cX11_function 49 = .ok (.ireturn, 1) := by decide +kernel
theorem dX11_function_50 : decode cX11_function 50 = .ok (.iload_n 2, 1) := by decide +kernel
theorem dX11_function_51 : decode cX11_function 51 = .ok (.tableswitch 117 0 4 #[33, 40, 47, 54, 70], 33) := by decide +kernel
theorem dX11_function_84 : decode cX11_function 84 = .ok (.aload_n 0, 1) := by decide +kernel
theorem dX11_function_85 : decode cX11_function 85 = .ok (.getfield 171, 3) := by decide +kernel
theorem dX11_function_88 : decode cX11_function 88 = .ok (.iload_n 1, 1) := by decide +kernel
theorem dX11_function_89 : decode cX11_function 89 = .ok (.iaload, 1) := by decide +kernel
theorem dX11_function_90 : decode cX11_function 90 = .ok (.ireturn, 1) := by decide +kernel
theorem dX11_function_91 : decode cX11_function 91 = .ok (.aload_n 0, 1) := by decide +kernel
theorem dX11_function_92 : decode cX11_function 92 = .ok (.getfield 83, 3) := by decide +kernel
theorem dX11_function_95 : decode cX11_function 95 = .ok (.iload_n 1, 1) := by decide +kernel
theorem dX11_function_96 : decode cX11_function 96 = .ok (.iaload, 1) := by decide +kernel
theorem dX11_function_97 : decode cX11_function 97 = .ok (.ireturn, 1) := by decide +kernel
theorem dX11_function_98 : decode cX11_function 98 = .ok (.aload_n 0, 1) := by decide +kernel
theorem dX11_function_99 : decode cX11_function 99 = .ok (.getfield 168, 3) := by decide +kernel
theorem dX11_function_102 : decode cX11_function 102 = .ok (.iload_n 1, 1) := by decide +kernel
theorem dX11_function_103 : decode cX11_function 103 = .ok (.iaload, 1) := by decide +kernel
theorem dX11_function_104 : decode cX11_function 104 = .ok (.ireturn, 1) := by decide +kernel
theorem dX11_function_105 : decode cX11_function 105 = .ok (.aload_n 0, 1) := by decide +kernel
theorem dX11_function_106 : decode cX11_function 106 = .ok (.getfield 165, 3) := by decide +kernel
theorem dX11_function_109 : decode cX11_function 109 = .ok (.iload_n 1, 1) := by decide +kernel
theorem dX11_function_110 : decode cX11_function 110 = .ok (.iaload, 1) := by decide +kernel
theorem dX11_function_111 : decode cX11_function 111 = .ok (.aload_n 0, 1) := by decide +kernel
theorem dX11_function_112 : decode cX11_function 112 = .ok (.getfield 162, 3) := by decide +kernel
theorem dX11_function_115 : decode cX11_function 115 = .ok (.iload_n 1, 1) := by decide +kernel
theorem dX11_function_116 : decode cX11_function 116 = .ok (.iaload, 1) := by decide +kernel
theorem dX11_function_117 : decode cX11_function 117 = .ok (.isub, 1) := by decide +kernel
theorem dX11_function_118 : decode cX11_function 118 = .ok (.iconst 1, 1) := by decide +kernel
theorem dX11_function_119 : decode cX11_function 119 = .ok (.iadd, 1) := by decide +kernel
theorem dX11_function_120 : decode cX11_function 120 = .ok (.ireturn, 1) := by decide +kernel
theorem dX11_function_121 : decode cX11_function 121 = .ok (.iconst 0, 1) := by decide +kernel
theorem dX11_function_122 : decode cX11_function 122 = .ok (.istore_n 3, 1) := by decide +kernel
theorem dX11_function_123 : decode cX11_function 123 = .ok (.aload_n 0, 1) := by decide +kernel
theorem dX11_function_124 : decode cX11_function 124 = .ok (.getfield 162, 3) := by decide +kernel
theorem dX11_function_127 : decode cX11_function 127 = .ok (.iload_n 1, 1) := by decide +kernel
theorem dX11_function_128 : decode cX11_function 128 = .ok (.iaload, 1) := by decide +kernel
theorem dX11_function_129 : decode cX11_function 129 = .ok (.istore 4, 2) := by decide +kernel
theorem dX11_function_131 : decode cX11_function 131 = .ok (.iload 4, 2) := by decide +kernel
theorem dX11_function_133 : decode cX11_function 133 = .ok (.aload_n 0, 1) := by decide +kernel
theorem dX11_function_134 : decode cX11_function 134 = .ok (.getfield 165, 3) := by decide +kernel
theorem dX11_function_137 : decode cX11_function 137 = .ok (.iload_n 1, 1) := by decide +kernel
theorem dX11_function_138 : decode cX11_function 138 = .ok (.iaload, 1) := by decide +kernel
theorem dX11_function_139 : decode cX11_function 139 = .ok (.if_icmp .gt 27, 3) := by decide +kernel
theorem dX11_function_142 : decode cX11_function 142 = .ok (.iload_n 3, 1) := by decide +kernel
theorem dX11_function_143 : decode cX11_function 143 = .ok (.aload_n 0, 1) := by decide +kernel
theorem dX11_function_144 : decode cX11_function 144 = .ok (.getfield 134, 3) := by decide +kernel
theorem dX11_function_147 : decode cX11_function 147 = .ok (.iload 4, 2) := by decide +kernel
theorem dX11_function_149 : decode cX11_function 149 = .ok (.baload, 1) := by decide +kernel
theorem dX11_function_150 : decode cX11_function 150 = .ok (.ifCond .eq 7, 3) := by decide +kernel
theorem dX11_function_153 : decode cX11_function 153 = .ok (.iconst 1, 1) := by decide +kernel
theorem dX11_function_154 : decode cX11_function 154 = .ok (.goto 4, 3) := by decide +kernel
theorem dX11_function_157 : decode cX11_function 157 = .ok (.iconst 0, 1) := by decide +kernel
theorem dX11_function_158 : decode cX11_function 158 = .ok (.iadd, 1) := by decide +kernel
theorem dX11_function_159 : decode cX11_function 159 = .ok (.istore_n 3, 1) := by decide +kernel
theorem dX11_function_160 : decode cX11_function 160 = .ok (.iinc 4 1, 3) := by decide +kernel
theorem dX11_function_163 : decode cX11_function 163 = .ok (.goto (-32), 3) := by decide +kernel
theorem dX11_function_166 : decode cX11_function 166 = .ok (.iload_n 3, 1) := by decide +kernel
theorem dX11_function_167 : decode cX11_function 167 = .ok (.ireturn, 1) := by decide +kernel
theorem dX11_function_168 : decode cX11_function 168 = .ok (.aload_n 0, 1) := by decide +kernel
theorem dX11_function_169 : decode cX11_function 169 = .ok (.getfield 138, 3) := by decide +kernel
theorem dX11_function_172 : decode cX11_function 172 = .ok (.aload_n 0, 1) := by decide +kernel
theorem dX11_function_173 : decode cX11_function 173 = .ok (.getfield 165, 3) := by decide +kernel
theorem dX11_function_176 : decode cX11_function 176 = .ok (.iload_n 1, 1) := by decide +kernel
theorem dX11_function_177 : decode cX11_function 177 = .ok (.iaload, 1) := by decide +kernel
theorem dX11_function_178 : decode cX11_function 178 = .ok (.iaload, 1) := by decide +kernel
theorem dX11_function_179 : decode cX11_function 179 = .ok (.ireturn, 1) := by decide +kernel
theorem mw_X11_function : MW yX11_function (Cond.code yX11_function cX11_function 5 (Option.some Jvm.ClassFile.FieldType.int)) cX11_function 5 (Option.some Jvm.ClassFile.FieldType.int) 2 := ⟨rfl, ⟨(lw_all_tbl q3419), rfl, (lw_all_tbl q173)⟩, rfl, ⟨by decide, by decide⟩, by decide +kernel⟩
abbrev okt_function_131 (x : Int × Int × Int) : Prop := R32 x.1 ∧ R32 x.2.1 ∧ R32 x.2.2
abbrev lvt_function_131 (Γ : Gm) (x : Int × Int × Int) : List (Nat × Value) := [(0, vA (mg Γ) 21), (1, vI x.1), (3, vI x.2.1), (4, vI x.2.2)]
noncomputable def t_function_158 {A : Type} (k_166 : Int → Mo TS A) (l1 : Int) (l4 : Int) (k0 : Int) (k1 : Int) : Mo TS ((Int × Int × Int) ⊕ A) :=
  pr (.inl (l1, (w32 (k1 + k0)), (w32 (l4 + 1))))
theorem st_function_158 {Γ : Gm} {h : CH} {d : Nat} (hT : HT h) (o : Ok Γ "LazyForgeModel" cX11_function 5 (Option.some Jvm.ClassFile.FieldType.int) (d + 1)) {A : Type} {K : A → TS → Prop}  (k_166 : Int → Mo TS A) (hk_166 : ∀ (l3 : Int), R32 l3 → Sx Γ (fun t => (h, t)) K 166 [(3, vI l3)] [] (k_166 l3)) (l1 : Int) (l4 : Int) (k0 : Int) (k1 : Int) (hl1 : R32 l1) (hl4 : R32 l4) (hk0 : rg .boolean k0) (hk1 : R32 k1) : Sx Γ (fun t => (h, t)) (KL Γ (fun t => (h, t)) okt_function_131 K 131 (lvt_function_131 Γ) []) 158 [(0, vA (mg Γ) 21), (1, vI l1), (4, vI l4)] [vI k0, vI k1] (t_function_158 k_166 l1 l4 k0 k1) := by
  unfold t_function_158
  refine s_iadd o dX11_function_158 ?_
  refine r_istore_n o dX11_function_159 rfl rfl ⟨(Nat.ne_of_beq_eq_false rfl), (fun _ => (vA_cat (mg Γ) 21)), ⟨(Nat.ne_of_beq_eq_false rfl), (fun _ => rfl), ⟨(Nat.ne_of_beq_eq_false rfl), (fun _ => rfl), trivial⟩⟩⟩ ?_
  refine r_iinc (j := 3) o dX11_function_160 rfl rfl [(3, vI (w32 (k1 + k0))), (0, vA (mg Γ) 21), (1, vI l1)] [0, 1, 2] rfl ⟨(Nat.ne_of_beq_eq_false rfl), (fun _ => rfl), ⟨(Nat.ne_of_beq_eq_false rfl), (fun _ => (vA_cat (mg Γ) 21)), ⟨(Nat.ne_of_beq_eq_false rfl), (fun _ => rfl), trivial⟩⟩⟩ ?_
  refine s_goto (tgt := 131) o dX11_function_163 (by decide) ?_
  refine r_to [(0, vA (mg Γ) 21), (1, vI l1), (3, vI (w32 (k1 + k0))), (4, vI (w32 (l4 + 1)))] [2, 3, 1, 0] rfl ?_
  exact s_back (⟨hl1, (w32_R _), (w32_R _)⟩) rfl
noncomputable def t_function_131b {A : Type} (k_166 : Int → Mo TS A) (l1 : Int) (l3 : Int) (l4 : Int) : Mo TS ((Int × Int × Int) ⊕ A) :=
  bnd (rd 80 640 l1) fun v1 =>
  if v1 < l4 then
    lo (k_166 l3)
  else
    bnd (rd 69 7000 l4) fun v2 =>
    if v2 = 0 then
      t_function_158 k_166 l1 l4 0 l3
    else
      t_function_158 k_166 l1 l4 1 l3
theorem st_function_131b {Γ : Gm} {h : CH} {d : Nat} (hT : HT h) (o : Ok Γ "LazyForgeModel" cX11_function 5 (Option.some Jvm.ClassFile.FieldType.int) (d + 1)) {A : Type} {K : A → TS → Prop} (k_166 : Int → Mo TS A) (hk_166 : ∀ (l3 : Int), R32 l3 → Sx Γ (fun t => (h, t)) K 166 [(3, vI l3)] [] (k_166 l3)) (l1 : Int) (l3 : Int) (l4 : Int) (hl1 : R32 l1) (hl3 : R32 l3) (hl4 : R32 l4) : Sx Γ (fun t => (h, t)) (KL Γ (fun t => (h, t)) okt_function_131 K 131 (lvt_function_131 Γ) []) 131 [(0, vA (mg Γ) 21), (1, vI l1), (3, vI l3), (4, vI l4)] [] (t_function_131b k_166 l1 l3 l4) := by
  unfold t_function_131b
  refine s_iload o dX11_function_131 3 rfl ?_
  refine s_aload_n o dX11_function_133 rfl 0 rfl ?_
  refine s_tga (x := 73) o hT tf_roots ta_roots (lw_all_tbl q2584) dX11_function_134 ?_
  refine s_iload_n o dX11_function_137 rfl 1 rfl ?_
  refine r_tiald o hT tr_roots hl1 dX11_function_138 (fun v1 hv1 => ?_)
  refine s_icmp_gt (tgt := 166) o dX11_function_139 (by decide) hl4 hv1 ?_ ?_
  · refine r_to [(3, vI l3)] [2] rfl ?_
    exact s_lo (hk_166 l3 hl3)
  · refine s_iload_n o dX11_function_142 rfl 2 rfl ?_
    refine s_aload_n o dX11_function_143 rfl 0 rfl ?_
    refine s_tga (x := 63) o hT tf_liftNeeds ta_liftNeeds (lw_all_tbl q2573) dX11_function_144 ?_
    refine s_iload o dX11_function_147 3 rfl ?_
    refine r_tzald o hT tr_liftNeeds hl4 dX11_function_149 (fun v2 hv2 => ?_)
    refine s_if_eq (tgt := 157) o dX11_function_150 (by decide) (rZ hv2) ?_ ?_
    · refine s_iconst o dX11_function_157 ?_
      refine r_to [(0, vA (mg Γ) 21), (1, vI l1), (4, vI l4)] [0, 1, 3] rfl ?_
      exact st_function_158 hT o k_166 hk_166 l1 l4 0 l3 hl1 hl4 (Or.inl rfl) hl3
    · refine s_iconst o dX11_function_153 ?_
      refine s_goto (tgt := 158) o dX11_function_154 (by decide) ?_
      refine r_to [(0, vA (mg Γ) 21), (1, vI l1), (4, vI l4)] [0, 1, 3] rfl ?_
      exact st_function_158 hT o k_166 hk_166 l1 l4 1 l3 hl1 hl4 (Or.inr rfl) hl3
noncomputable def t_function_131 {A : Type} (k_166 : Int → Mo TS A) (l1 : Int) (l3 : Int) (l4 : Int) : Mo TS A := Loop (fun x => t_function_131b k_166 x.1 x.2.1 x.2.2) (l1, l3, l4)
theorem st_function_131 {Γ : Gm} {h : CH} {d : Nat} (hT : HT h) (o : Ok Γ "LazyForgeModel" cX11_function 5 (Option.some Jvm.ClassFile.FieldType.int) (d + 1)) {A : Type} {K : A → TS → Prop} (k_166 : Int → Mo TS A) (hk_166 : ∀ (l3 : Int), R32 l3 → Sx Γ (fun t => (h, t)) K 166 [(3, vI l3)] [] (k_166 l3)) (l1 : Int) (l3 : Int) (l4 : Int) (hl1 : R32 l1) (hl3 : R32 l3) (hl4 : R32 l4) : Sx Γ (fun t => (h, t)) K 131 [(0, vA (mg Γ) 21), (1, vI l1), (3, vI l3), (4, vI l4)] [] (t_function_131 k_166 l1 l3 l4) :=
  s_loop okt_function_131 (lvt_function_131 Γ) (fun x hx => st_function_131b hT o k_166 hk_166 x.1 x.2.1 x.2.2 hx.1 hx.2.1 hx.2.2) (x := (l1, l3, l4)) ⟨hl1, hl3, hl4⟩
noncomputable def t_function_38  (l1 : Int) (l2 : Int) (k0 : Int) : Mo TS Int :=
  bnd (ss 0 k0) fun _ =>
  bnd (gs 0) fun v1 =>
  if v1 ≤ 0 then
    if l2 = 0 then
      bnd (rd 82 640 l1) fun v3 =>
      pr v3
    else
      if l2 = 1 then
        bnd (rd 48 640 l1) fun v5 =>
        pr v5
      else
        if l2 = 2 then
          bnd (rd 81 640 l1) fun v7 =>
          pr v7
        else
          if l2 = 3 then
            bnd (rd 80 640 l1) fun v9 =>
            bnd (rd 79 640 l1) fun v10 =>
            pr (w32 ((w32 (v9 - v10)) + 1))
          else
            if l2 = 4 then
              bnd (rd 79 640 l1) fun v12 =>
              t_function_131
                (fun v13 => pr v13) l1 0 v12
            else
              bnd (rd 80 640 l1) fun v14 =>
              bnd (rd 70 7000 v14) fun v15 =>
              pr v15
  else
    pr 0
theorem st_function_38 {Γ : Gm} {h : CH} {d : Nat} (hT : HT h) (o : Ok Γ "LazyForgeModel" cX11_function 5 (Option.some Jvm.ClassFile.FieldType.int) (d + 1))   (l1 : Int) (l2 : Int) (k0 : Int) (hl1 : R32 l1) (hl2 : R32 l2) (hk0 : R32 k0) : Sx Γ (fun t => (h, t)) (fun a s => mt Γ = (0, a, ((h, s) : Wd))) 38 [(0, vA (mg Γ) 21), (1, vI l1), (2, vI l2)] [vI k0, vA (mg Γ) 21] (t_function_38 l1 l2 k0) := by
  unfold t_function_38
  refine r_tpf vI rfl o hT tf_thrown tj_thrown (lw_all_tbl q2504) dX11_function_38 hk0 ty_int ?_
  refine s_aload_n o dX11_function_41 rfl 0 rfl ?_
  refine r_tgf vI rfl o hT tf_thrown tj_thrown (lw_all_tbl q2504) dX11_function_42 (fun v1 hv1 => ?_)
  refine s_if_le (tgt := 50) o dX11_function_45 (by decide) hv1 ?_ ?_
  · refine s_iload_n o dX11_function_50 rfl 2 rfl ?_
    refine s_case (P := True) (fun e1 => ?_) (fun e1 => ?_)
    · refine s_tabE o e1 dX11_function_51 (r32 rfl) rfl rfl (tgt := 84) (by decide) ?_
      refine s_aload_n o dX11_function_84 rfl 0 rfl ?_
      refine s_tga (x := 75) o hT tf_parameterCounts ta_parameterCounts (lw_all_tbl q2586) dX11_function_85 ?_
      refine s_iload_n o dX11_function_88 rfl 1 rfl ?_
      refine r_tiald o hT tr_parameterCounts hl1 dX11_function_89 (fun v3 hv3 => ?_)
      exact s_iret o rfl i_int hv3 dX11_function_90 (fun _ hh => hh)
    · refine s_case (P := True) (fun e3 => ?_) (fun e3 => ?_)
      · refine s_tabE o e3 dX11_function_51 (r32 rfl) rfl rfl (tgt := 91) (by decide) ?_
        refine s_aload_n o dX11_function_91 rfl 0 rfl ?_
        refine s_tga (x := 46) o hT tf_freeCounts ta_freeCounts (lw_all_tbl q2552) dX11_function_92 ?_
        refine s_iload_n o dX11_function_95 rfl 1 rfl ?_
        refine r_tiald o hT tr_freeCounts hl1 dX11_function_96 (fun v5 hv5 => ?_)
        exact s_iret o rfl i_int hv5 dX11_function_97 (fun _ hh => hh)
      · refine s_case (P := True) (fun e5 => ?_) (fun e5 => ?_)
        · refine s_tabE o e5 dX11_function_51 (r32 rfl) rfl rfl (tgt := 98) (by decide) ?_
          refine s_aload_n o dX11_function_98 rfl 0 rfl ?_
          refine s_tga (x := 74) o hT tf_variableCounts ta_variableCounts (lw_all_tbl q2585) dX11_function_99 ?_
          refine s_iload_n o dX11_function_102 rfl 1 rfl ?_
          refine r_tiald o hT tr_variableCounts hl1 dX11_function_103 (fun v7 hv7 => ?_)
          exact s_iret o rfl i_int hv7 dX11_function_104 (fun _ hh => hh)
        · refine s_case (P := True) (fun e7 => ?_) (fun e7 => ?_)
          · refine s_tabE o e7 dX11_function_51 (r32 rfl) rfl rfl (tgt := 105) (by decide) ?_
            refine s_aload_n o dX11_function_105 rfl 0 rfl ?_
            refine s_tga (x := 73) o hT tf_roots ta_roots (lw_all_tbl q2584) dX11_function_106 ?_
            refine s_iload_n o dX11_function_109 rfl 1 rfl ?_
            refine r_tiald o hT tr_roots hl1 dX11_function_110 (fun v9 hv9 => ?_)
            refine s_aload_n o dX11_function_111 rfl 0 rfl ?_
            refine s_tga (x := 72) o hT tf_begins ta_begins (lw_all_tbl q2583) dX11_function_112 ?_
            refine s_iload_n o dX11_function_115 rfl 1 rfl ?_
            refine r_tiald o hT tr_begins hl1 dX11_function_116 (fun v10 hv10 => ?_)
            refine s_isub o dX11_function_117 ?_
            refine s_iconst o dX11_function_118 ?_
            refine s_iadd o dX11_function_119 ?_
            exact s_iret o rfl i_int (w32_R _) dX11_function_120 (fun _ hh => hh)
          · refine s_case (P := True) (fun e10 => ?_) (fun e10 => ?_)
            · refine s_tabE o e10 dX11_function_51 (r32 rfl) rfl rfl (tgt := 121) (by decide) ?_
              refine s_iconst o dX11_function_121 ?_
              refine r_istore_n o dX11_function_122 rfl rfl ⟨(Nat.ne_of_beq_eq_false rfl), (fun _ => (vA_cat (mg Γ) 21)), ⟨(Nat.ne_of_beq_eq_false rfl), (fun _ => rfl), ⟨(Nat.ne_of_beq_eq_false rfl), (fun _ => rfl), trivial⟩⟩⟩ ?_
              refine s_aload_n o dX11_function_123 rfl 1 rfl ?_
              refine s_tga (x := 72) o hT tf_begins ta_begins (lw_all_tbl q2583) dX11_function_124 ?_
              refine s_iload_n o dX11_function_127 rfl 2 rfl ?_
              refine r_tiald o hT tr_begins hl1 dX11_function_128 (fun v12 hv12 => ?_)
              refine r_istore o dX11_function_129 rfl ⟨(Nat.ne_of_beq_eq_false rfl), (fun _ => rfl), ⟨(Nat.ne_of_beq_eq_false rfl), (fun _ => (vA_cat (mg Γ) 21)), ⟨(Nat.ne_of_beq_eq_false rfl), (fun _ => rfl), ⟨(Nat.ne_of_beq_eq_false rfl), (fun _ => rfl), trivial⟩⟩⟩⟩ ?_
              refine r_to [(0, vA (mg Γ) 21), (1, vI l1), (3, vI 0), (4, vI v12)] [2, 3, 1, 0] rfl ?_
              refine st_function_131 hT o _ ?_ l1 0 v12 hl1 (r32 rfl) hv12
              · intro v13 hv13
                refine s_iload_n o dX11_function_166 rfl 0 rfl ?_
                exact s_iret o rfl i_int hv13 dX11_function_167 (fun _ hh => hh)
            · refine s_tabOut o dX11_function_51 hl2 (by omega) (tgt := 168) (by decide) ?_
              refine s_aload_n o dX11_function_168 rfl 0 rfl ?_
              refine s_tga (x := 64) o hT tf_heights ta_heights (lw_all_tbl q2574) dX11_function_169 ?_
              refine s_aload_n o dX11_function_172 rfl 0 rfl ?_
              refine s_tga (x := 73) o hT tf_roots ta_roots (lw_all_tbl q2584) dX11_function_173 ?_
              refine s_iload_n o dX11_function_176 rfl 1 rfl ?_
              refine r_tiald o hT tr_roots hl1 dX11_function_177 (fun v14 hv14 => ?_)
              refine r_tiald o hT tr_heights hv14 dX11_function_178 (fun v15 hv15 => ?_)
              exact s_iret o rfl i_int hv15 dX11_function_179 (fun _ hh => hh)
  · refine s_iconst o dX11_function_48 ?_
    exact s_iret o rfl i_int (r32 rfl) dX11_function_49 (fun _ hh => hh)
noncomputable def t_function_33  (l1 : Int) (l2 : Int) : Mo TS Int :=
  t_function_38 l1 l2 3
theorem st_function_33 {Γ : Gm} {h : CH} {d : Nat} (hT : HT h) (o : Ok Γ "LazyForgeModel" cX11_function 5 (Option.some Jvm.ClassFile.FieldType.int) (d + 1))   (l1 : Int) (l2 : Int) (hl1 : R32 l1) (hl2 : R32 l2) : Sx Γ (fun t => (h, t)) (fun a s => mt Γ = (0, a, ((h, s) : Wd))) 33 [(0, vA (mg Γ) 21), (1, vI l1), (2, vI l2)] [vA (mg Γ) 21] (t_function_33 l1 l2) := by
  unfold t_function_33
  refine s_iconst o dX11_function_33 ?_
  refine s_goto (tgt := 38) o dX11_function_34 (by decide) ?_
  exact st_function_38 hT o l1 l2 3 hl1 hl2 (r32 rfl)
noncomputable def t_function (l1 : Int) (l2 : Int) : Mo TS Int :=
  bnd (t_codeOf l1) fun v1 =>
  bnd (ss 0 v1) fun _ =>
  bnd (gs 0) fun v2 =>
  if v2 ≤ 0 then
    if l2 < 0 then
      t_function_33 l1 l2
    else
      if l2 ≤ 5 then
        t_function_38 l1 l2 0
      else
        t_function_33 l1 l2
  else
    bnd (gs 0) fun v3 =>
    t_function_38 l1 l2 v3
theorem st_function (g : gC) (d : Nat) (h : CH) (hT : HT h) (l1 : Int) (l2 : Int) (hl1 : R32 l1) (hl2 : R32 l2) : SF g yX11_function (Cond.code yX11_function cX11_function 5 (Option.some Jvm.ClassFile.FieldType.int)) (Option.some Jvm.ClassFile.FieldType.int) (d + 1) [vA g 21, vI l1, vI l2] (fun t => (h, t)) (t_function l1 l2) := by
  refine SF.of (lv := [(0, vA g 21), (1, vI l1), (2, vI l2)]) (by decide) (wt_A (wt_I (wt_I wt_0))) rfl (by simp only [la_A, la_I, la_J, la_0]) (fun Γ hg hnm o => ?_)
  subst hg
  have o : Ok Γ "LazyForgeModel" cX11_function 5 (Option.some Jvm.ClassFile.FieldType.int) (d + 1) := o
  unfold t_function
  refine s_aload_n o dX11_function_0 rfl 0 rfl ?_
  refine s_aload_n o dX11_function_1 rfl 0 rfl ?_
  refine s_iload_n o dX11_function_2 rfl 1 rfl ?_
  refine s_cv (d := d + 0) (C := "LazyForgeModel") (As := [vI l1]) (st := [vA (mg Γ) 21]) o (st_codeOf (mg Γ) d h hT l1 hl1) mw_X11_codeOf rfl (Or.inl (lw_all_tbl q3420)) (lw_all_tbl qs161) (lw_all_tbl q3422) (fun t => rc_t o hT t) (wt_A wt_0) rfl dX11_function_3 rfl (rs := fun r => [vI r, vA (mg Γ) 21]) (fun _ => rfl) (fun v1 hv1 => ?_)
  refine r_tpf vI rfl o hT tf_thrown tj_thrown (lw_all_tbl q2504) dX11_function_6 (hv1 _ rfl) ty_int ?_
  refine s_aload_n o dX11_function_9 rfl 0 rfl ?_
  refine s_aload_n o dX11_function_10 rfl 0 rfl ?_
  refine r_tgf vI rfl o hT tf_thrown tj_thrown (lw_all_tbl q2504) dX11_function_11 (fun v2 hv2 => ?_)
  refine s_if_le (tgt := 24) o dX11_function_14 (by decide) hv2 ?_ ?_
  · refine s_iload_n o dX11_function_24 rfl 2 rfl ?_
    refine s_if_lt (tgt := 33) o dX11_function_25 (by decide) hl2 ?_ ?_
    · exact st_function_33 hT o l1 l2 hl1 hl2
    · refine s_iload_n o dX11_function_28 rfl 2 rfl ?_
      refine s_iconst o dX11_function_29 ?_
      refine s_icmp_le (tgt := 37) o dX11_function_30 (by decide) hl2 (r32 rfl) ?_ ?_
      · refine s_iconst o dX11_function_37 ?_
        exact st_function_38 hT o l1 l2 0 hl1 hl2 (r32 rfl)
      · exact st_function_33 hT o l1 l2 hl1 hl2
  · refine s_aload_n o dX11_function_17 rfl 0 rfl ?_
    refine r_tgf vI rfl o hT tf_thrown tj_thrown (lw_all_tbl q2504) dX11_function_18 (fun v3 hv3 => ?_)
    refine s_goto (tgt := 38) o dX11_function_21 (by decide) ?_
    exact st_function_38 hT o l1 l2 v3 hl1 hl2 hv3
theorem dX11_needs_0 : decode cX11_needs 0 = .ok (.aload_n 0, 1) := by decide +kernel
theorem dX11_needs_1 : decode cX11_needs 1 = .ok (.aload_n 0, 1) := by decide +kernel
theorem dX11_needs_2 : decode cX11_needs 2 = .ok (.iload_n 1, 1) := by decide +kernel
theorem dX11_needs_3 : decode cX11_needs 3 = .ok (.invokevirtual 811, 3) := by decide +kernel
theorem dX11_needs_6 : decode cX11_needs 6 = .ok (.putfield 251, 3) := by decide +kernel
theorem dX11_needs_9 : decode cX11_needs 9 = .ok (.aload_n 0, 1) := by decide +kernel
theorem dX11_needs_10 : decode cX11_needs 10 = .ok (.aload_n 0, 1) := by decide +kernel
theorem dX11_needs_11 : decode cX11_needs 11 = .ok (.getfield 251, 3) := by decide +kernel
theorem dX11_needs_14 : decode cX11_needs 14 = .ok (.ifCond .le 10, 3) := by decide +kernel
theorem dX11_needs_17 : decode cX11_needs 17 = .ok (.aload_n 0, 1) := by decide +kernel
theorem dX11_needs_18 : decode cX11_needs 18 = .ok (.getfield 251, 3) := by decide +kernel
theorem dX11_needs_21 : decode cX11_needs 21 = .ok (.goto 22, 3) := by decide +kernel
theorem dX11_needs_24 : decode cX11_needs 24 = .ok (.iload_n 2, 1) := by decide +kernel
theorem dX11_needs_25 : decode cX11_needs 25 = .ok (.ifCond .lt 13, 3) := by decide +kernel
theorem dX11_needs_28 : decode cX11_needs 28 = .ok (.iload_n 2, 1) := by decide +kernel
theorem dX11_needs_29 : decode cX11_needs 29 = .ok (.aload_n 0, 1) := by decide +kernel
theorem dX11_needs_30 : decode cX11_needs 30 = .ok (.getfield 171, 3) := by decide +kernel
theorem dX11_needs_33 : decode cX11_needs 33 = .ok (.iload_n 1, 1) := by decide +kernel
theorem dX11_needs_34 : decode cX11_needs 34 = .ok (.iaload, 1) := by decide +kernel
theorem dX11_needs_35 : decode cX11_needs 35 = .ok (.if_icmp .lt 7, 3) := by decide +kernel
theorem dX11_needs_38 : decode cX11_needs 38 = .ok (.iconst 2, 1) := by decide +kernel
theorem dX11_needs_39 : decode cX11_needs 39 = .ok (.goto 4, 3) := by decide +kernel
theorem dX11_needs_42 : decode cX11_needs 42 = .ok (.iconst 0, 1) := by decide +kernel
theorem dX11_needs_43 : decode cX11_needs 43 = .ok (.putfield 251, 3) := by decide +kernel
theorem dX11_needs_46 : decode cX11_needs 46 = .ok (.aload_n 0, 1) := by decide +kernel
theorem dX11_needs_47 : decode cX11_needs 47 = .ok (.getfield 251, 3) := by decide +kernel
theorem dX11_needs_50 : decode cX11_needs 50 = .ok (.ifCond .ne 21, 3) := by decide +kernel
theorem dX11_needs_53 : decode cX11_needs 53 = .ok (.aload_n 0, 1) := by decide +kernel
theorem dX11_needs_54 : decode cX11_needs 54 = .ok (.getfield 191, 3) := by decide +kernel
theorem dX11_needs_57 : decode cX11_needs 57 = .ok (.bipush 8, 2) := by decide +kernel
theorem dX11_needs_59 : decode cX11_needs 59 = .ok (.iload_n 1, 1) := by decide +kernel
theorem dX11_needs_60 : decode cX11_needs 60 = .ok (.imul, 1) := by decide +kernel
theorem dX11_needs_61 : decode cX11_needs 61 = .ok (.iload_n 2, 1) := by decide +kernel
theorem dX11_needs_62 : decode cX11_needs 62 = .ok (.iadd, 1) := by decide +kernel
theorem dX11_needs_63 : decode cX11_needs 63 = .ok (.baload, 1) := by decide +kernel
theorem dX11_needs_64 : decode cX11_needs 64 = .ok (.ifCond .eq 7, 3) := by decide +kernel
theorem dX11_needs_67 : decode cX11_needs 67 = .ok (.iconst 1, 1) := by decide +kernel
theorem dX11_needs_68 : decode cX11_needs 68 = .ok (.goto 4, 3) := by decide +kernel
theorem dX11_needs_71 : decode cX11_needs 71 = .ok (.iconst 0, 1) := by decide +kernel
theorem dX11_needs_72 : decode cX11_needs 72 = .ok (.ireturn, 1) := by decide +kernel
theorem mw_X11_needs : MW yX11_needs (Cond.code yX11_needs cX11_needs 3 (Option.some Jvm.ClassFile.FieldType.boolean)) cX11_needs 3 (Option.some Jvm.ClassFile.FieldType.boolean) 2 := ⟨rfl, ⟨(lw_all_tbl q3427), rfl, (lw_all_tbl q173)⟩, rfl, ⟨by decide, by decide⟩, by decide +kernel⟩
noncomputable def t_needs_43  (l1 : Int) (l2 : Int) (k0 : Int) : Mo TS Int :=
  bnd (ss 0 k0) fun _ =>
  bnd (gs 0) fun v1 =>
  if ¬ v1 = 0 then
    pr 0
  else
    bnd (rd 91 5120 (w32 ((w32 (8 * l1)) + l2))) fun v2 =>
    if v2 = 0 then
      pr 0
    else
      pr 1
theorem st_needs_43 {Γ : Gm} {h : CH} {d : Nat} (hT : HT h) (o : Ok Γ "LazyForgeModel" cX11_needs 3 (Option.some Jvm.ClassFile.FieldType.boolean) (d + 1))   (l1 : Int) (l2 : Int) (k0 : Int) (hl1 : R32 l1) (hl2 : R32 l2) (hk0 : R32 k0) : Sx Γ (fun t => (h, t)) (fun a s => mt Γ = (0, a, ((h, s) : Wd))) 43 [(0, vA (mg Γ) 21), (1, vI l1), (2, vI l2)] [vI k0, vA (mg Γ) 21] (t_needs_43 l1 l2 k0) := by
  unfold t_needs_43
  refine r_tpf vI rfl o hT tf_thrown tj_thrown (lw_all_tbl q2504) dX11_needs_43 hk0 ty_int ?_
  refine s_aload_n o dX11_needs_46 rfl 0 rfl ?_
  refine r_tgf vI rfl o hT tf_thrown tj_thrown (lw_all_tbl q2504) dX11_needs_47 (fun v1 hv1 => ?_)
  refine s_if_ne (tgt := 71) o dX11_needs_50 (by decide) hv1 ?_ ?_
  · refine s_iconst o dX11_needs_71 ?_
    exact s_iret o rfl i_boolean (Or.inl rfl) dX11_needs_72 (fun _ hh => hh)
  · refine s_aload_n o dX11_needs_53 rfl 0 rfl ?_
    refine s_tga (x := 80) o hT tf_needed ta_needed (lw_all_tbl q2595) dX11_needs_54 ?_
    refine s_bipush o dX11_needs_57 rfl ?_
    refine s_iload_n o dX11_needs_59 rfl 1 rfl ?_
    refine s_imul o dX11_needs_60 ?_
    refine s_iload_n o dX11_needs_61 rfl 2 rfl ?_
    refine s_iadd o dX11_needs_62 ?_
    refine r_tzald o hT tr_needed (w32_R _) dX11_needs_63 (fun v2 hv2 => ?_)
    refine s_if_eq (tgt := 71) o dX11_needs_64 (by decide) (rZ hv2) ?_ ?_
    · refine s_iconst o dX11_needs_71 ?_
      exact s_iret o rfl i_boolean (Or.inl rfl) dX11_needs_72 (fun _ hh => hh)
    · refine s_iconst o dX11_needs_67 ?_
      refine s_goto (tgt := 72) o dX11_needs_68 (by decide) ?_
      exact s_iret o rfl i_boolean (Or.inr rfl) dX11_needs_72 (fun _ hh => hh)
noncomputable def t_needs_38  (l1 : Int) (l2 : Int) : Mo TS Int :=
  t_needs_43 l1 l2 2
theorem st_needs_38 {Γ : Gm} {h : CH} {d : Nat} (hT : HT h) (o : Ok Γ "LazyForgeModel" cX11_needs 3 (Option.some Jvm.ClassFile.FieldType.boolean) (d + 1))   (l1 : Int) (l2 : Int) (hl1 : R32 l1) (hl2 : R32 l2) : Sx Γ (fun t => (h, t)) (fun a s => mt Γ = (0, a, ((h, s) : Wd))) 38 [(0, vA (mg Γ) 21), (1, vI l1), (2, vI l2)] [vA (mg Γ) 21] (t_needs_38 l1 l2) := by
  unfold t_needs_38
  refine s_iconst o dX11_needs_38 ?_
  refine s_goto (tgt := 43) o dX11_needs_39 (by decide) ?_
  exact st_needs_43 hT o l1 l2 2 hl1 hl2 (r32 rfl)
noncomputable def t_needs (l1 : Int) (l2 : Int) : Mo TS Int :=
  bnd (t_codeOf l1) fun v1 =>
  bnd (ss 0 v1) fun _ =>
  bnd (gs 0) fun v2 =>
  if v2 ≤ 0 then
    if l2 < 0 then
      t_needs_38 l1 l2
    else
      bnd (rd 82 640 l1) fun v3 =>
      if l2 < v3 then
        t_needs_43 l1 l2 0
      else
        t_needs_38 l1 l2
  else
    bnd (gs 0) fun v4 =>
    t_needs_43 l1 l2 v4
theorem st_needs (g : gC) (d : Nat) (h : CH) (hT : HT h) (l1 : Int) (l2 : Int) (hl1 : R32 l1) (hl2 : R32 l2) : SF g yX11_needs (Cond.code yX11_needs cX11_needs 3 (Option.some Jvm.ClassFile.FieldType.boolean)) (Option.some Jvm.ClassFile.FieldType.boolean) (d + 1) [vA g 21, vI l1, vI l2] (fun t => (h, t)) (t_needs l1 l2) := by
  refine SF.of (lv := [(0, vA g 21), (1, vI l1), (2, vI l2)]) (by decide) (wt_A (wt_I (wt_I wt_0))) rfl (by simp only [la_A, la_I, la_J, la_0]) (fun Γ hg hnm o => ?_)
  subst hg
  have o : Ok Γ "LazyForgeModel" cX11_needs 3 (Option.some Jvm.ClassFile.FieldType.boolean) (d + 1) := o
  unfold t_needs
  refine s_aload_n o dX11_needs_0 rfl 0 rfl ?_
  refine s_aload_n o dX11_needs_1 rfl 0 rfl ?_
  refine s_iload_n o dX11_needs_2 rfl 1 rfl ?_
  refine s_cv (d := d + 0) (C := "LazyForgeModel") (As := [vI l1]) (st := [vA (mg Γ) 21]) o (st_codeOf (mg Γ) d h hT l1 hl1) mw_X11_codeOf rfl (Or.inl (lw_all_tbl q3420)) (lw_all_tbl qs161) (lw_all_tbl q3422) (fun t => rc_t o hT t) (wt_A wt_0) rfl dX11_needs_3 rfl (rs := fun r => [vI r, vA (mg Γ) 21]) (fun _ => rfl) (fun v1 hv1 => ?_)
  refine r_tpf vI rfl o hT tf_thrown tj_thrown (lw_all_tbl q2504) dX11_needs_6 (hv1 _ rfl) ty_int ?_
  refine s_aload_n o dX11_needs_9 rfl 0 rfl ?_
  refine s_aload_n o dX11_needs_10 rfl 0 rfl ?_
  refine r_tgf vI rfl o hT tf_thrown tj_thrown (lw_all_tbl q2504) dX11_needs_11 (fun v2 hv2 => ?_)
  refine s_if_le (tgt := 24) o dX11_needs_14 (by decide) hv2 ?_ ?_
  · refine s_iload_n o dX11_needs_24 rfl 2 rfl ?_
    refine s_if_lt (tgt := 38) o dX11_needs_25 (by decide) hl2 ?_ ?_
    · exact st_needs_38 hT o l1 l2 hl1 hl2
    · refine s_iload_n o dX11_needs_28 rfl 2 rfl ?_
      refine s_aload_n o dX11_needs_29 rfl 0 rfl ?_
      refine s_tga (x := 75) o hT tf_parameterCounts ta_parameterCounts (lw_all_tbl q2586) dX11_needs_30 ?_
      refine s_iload_n o dX11_needs_33 rfl 1 rfl ?_
      refine r_tiald o hT tr_parameterCounts hl1 dX11_needs_34 (fun v3 hv3 => ?_)
      refine s_icmp_lt (tgt := 42) o dX11_needs_35 (by decide) hl2 hv3 ?_ ?_
      · refine s_iconst o dX11_needs_42 ?_
        exact st_needs_43 hT o l1 l2 0 hl1 hl2 (r32 rfl)
      · exact st_needs_38 hT o l1 l2 hl1 hl2
  · refine s_aload_n o dX11_needs_17 rfl 0 rfl ?_
    refine r_tgf vI rfl o hT tf_thrown tj_thrown (lw_all_tbl q2504) dX11_needs_18 (fun v4 hv4 => ?_)
    refine s_goto (tgt := 43) o dX11_needs_21 (by decide) ?_
    exact st_needs_43 hT o l1 l2 v4 hl1 hl2 hv4
theorem dX11_bit_0 : decode cX11_bit 0 = .ok (.aload_n 0, 1) := by decide +kernel
theorem dX11_bit_1 : decode cX11_bit 1 = .ok (.aload_n 0, 1) := by decide +kernel
theorem dX11_bit_2 : decode cX11_bit 2 = .ok (.iload_n 1, 1) := by decide +kernel
theorem dX11_bit_3 : decode cX11_bit 3 = .ok (.invokevirtual 811, 3) := by decide +kernel
theorem dX11_bit_6 : decode cX11_bit 6 = .ok (.putfield 251, 3) := by decide +kernel
theorem dX11_bit_9 : decode cX11_bit 9 = .ok (.aload_n 0, 1) := by decide +kernel
theorem dX11_bit_10 : decode cX11_bit 10 = .ok (.aload_n 0, 1) := by decide +kernel
theorem dX11_bit_11 : decode cX11_bit 11 = .ok (.getfield 251, 3) := by decide +kernel
theorem dX11_bit_14 : decode cX11_bit 14 = .ok (.ifCond .le 10, 3) := by decide +kernel
theorem dX11_bit_17 : decode cX11_bit 17 = .ok (.aload_n 0, 1) := by decide +kernel
theorem dX11_bit_18 : decode cX11_bit 18 = .ok (.getfield 251, 3) := by decide +kernel
theorem dX11_bit_21 : decode cX11_bit 21 = .ok (.goto 24, 3) := by decide +kernel
theorem dX11_bit_24 : decode cX11_bit 24 = .ok (.iload_n 2, 1) := by decide +kernel
theorem dX11_bit_25 : decode cX11_bit 25 = .ok (.ifCond .lt 15, 3) := by decide +kernel
theorem dX11_bit_28 : decode cX11_bit 28 = .ok (.iload_n 2, 1) := by decide +kernel
theorem dX11_bit_29 : decode cX11_bit 29 = .ok (.iconst 1, 1) := by decide +kernel
theorem dX11_bit_30 : decode cX11_bit 30 = .ok (.aload_n 0, 1) := by decide +kernel
theorem dX11_bit_31 : decode cX11_bit 31 = .ok (.getfield 171, 3) := by decide +kernel
theorem dX11_bit_34 : decode cX11_bit 34 = .ok (.iload_n 1, 1) := by decide +kernel
theorem dX11_bit_35 : decode cX11_bit 35 = .ok (.iaload, 1) := by decide +kernel
theorem dX11_bit_36 : decode cX11_bit 36 = .ok (.ishl, 1) := by decide +kernel
theorem dX11_bit_37 : decode cX11_bit 37 = .ok (.if_icmp .lt 7, 3) := by decide +kernel
theorem dX11_bit_40 : decode cX11_bit 40 = .ok (.iconst 3, 1) := by decide +kernel
theorem dX11_bit_41 : decode cX11_bit 41 = .ok (.goto 4, 3) := by decide +kernel
theorem dX11_bit_44 : decode cX11_bit 44 = .ok (.iconst 0, 1) := by decide +kernel
theorem dX11_bit_45 : decode cX11_bit 45 = .ok (.putfield 251, 3) := by decide +kernel
theorem dX11_bit_48 : decode cX11_bit 48 = .ok (.aload_n 0, 1) := by decide +kernel
theorem dX11_bit_49 : decode cX11_bit 49 = .ok (.getfield 251, 3) := by decide +kernel
theorem dX11_bit_52 : decode cX11_bit 52 = .ok (.ifCond .ne 16, 3) := by decide +kernel
theorem dX11_bit_55 : decode cX11_bit 55 = .ok (.aload_n 0, 1) := by decide +kernel
theorem dX11_bit_56 : decode cX11_bit 56 = .ok (.iload_n 1, 1) := by decide +kernel
theorem dX11_bit_57 : decode cX11_bit 57 = .ok (.iload_n 2, 1) := by decide +kernel
theorem dX11_bit_58 : decode cX11_bit 58 = .ok (.invokevirtual 554, 3) := by decide +kernel
theorem dX11_bit_61 : decode cX11_bit 61 = .ok (.ifCond .eq 7, 3) := by decide +kernel
theorem dX11_bit_64 : decode cX11_bit 64 = .ok (.iconst 1, 1) := by decide +kernel
theorem dX11_bit_65 : decode cX11_bit 65 = .ok (.goto 4, 3) := by decide +kernel
theorem dX11_bit_68 : decode cX11_bit 68 = .ok (.iconst 0, 1) := by decide +kernel
theorem dX11_bit_69 : decode cX11_bit 69 = .ok (.ireturn, 1) := by decide +kernel
theorem mw_X11_bit : MW yX11_bit (Cond.code yX11_bit cX11_bit 3 (Option.some Jvm.ClassFile.FieldType.int)) cX11_bit 3 (Option.some Jvm.ClassFile.FieldType.int) 2 := ⟨rfl, ⟨(lw_all_tbl q3431), rfl, (lw_all_tbl q173)⟩, rfl, ⟨by decide, by decide⟩, by decide +kernel⟩
noncomputable def t_bit_45  (l1 : Int) (l2 : Int) (k0 : Int) : Mo TS Int :=
  bnd (ss 0 k0) fun _ =>
  bnd (gs 0) fun v1 =>
  if ¬ v1 = 0 then
    pr 0
  else
    bnd (t_table l1 l2) fun v2 =>
    if v2 = 0 then
      pr 0
    else
      pr 1
theorem st_bit_45 {Γ : Gm} {h : CH} {d : Nat} (hT : HT h) (o : Ok Γ "LazyForgeModel" cX11_bit 3 (Option.some Jvm.ClassFile.FieldType.int) (d + 1))   (l1 : Int) (l2 : Int) (k0 : Int) (hl1 : R32 l1) (hl2 : R32 l2) (hk0 : R32 k0) : Sx Γ (fun t => (h, t)) (fun a s => mt Γ = (0, a, ((h, s) : Wd))) 45 [(0, vA (mg Γ) 21), (1, vI l1), (2, vI l2)] [vI k0, vA (mg Γ) 21] (t_bit_45 l1 l2 k0) := by
  unfold t_bit_45
  refine r_tpf vI rfl o hT tf_thrown tj_thrown (lw_all_tbl q2504) dX11_bit_45 hk0 ty_int ?_
  refine s_aload_n o dX11_bit_48 rfl 0 rfl ?_
  refine r_tgf vI rfl o hT tf_thrown tj_thrown (lw_all_tbl q2504) dX11_bit_49 (fun v1 hv1 => ?_)
  refine s_if_ne (tgt := 68) o dX11_bit_52 (by decide) hv1 ?_ ?_
  · refine s_iconst o dX11_bit_68 ?_
    exact s_iret o rfl i_int (r32 rfl) dX11_bit_69 (fun _ hh => hh)
  · refine s_aload_n o dX11_bit_55 rfl 0 rfl ?_
    refine s_iload_n o dX11_bit_56 rfl 1 rfl ?_
    refine s_iload_n o dX11_bit_57 rfl 2 rfl ?_
    refine s_cv (d := d + 0) (C := "LazyForgeModel") (As := [vI l1, vI l2]) (st := []) o (st_table (mg Γ) d h hT l1 l2 hl1 hl2) mw_X11_table rfl (Or.inl (lw_all_tbl q3209)) (lw_all_tbl qs120) (lw_all_tbl q3211) (fun t => rc_t o hT t) wt_0 rfl dX11_bit_58 rfl (rs := fun r => [vI r]) (fun _ => rfl) (fun v2 hv2 => ?_)
    refine s_if_eq (tgt := 68) o dX11_bit_61 (by decide) (rZ (hv2 _ rfl)) ?_ ?_
    · refine s_iconst o dX11_bit_68 ?_
      exact s_iret o rfl i_int (r32 rfl) dX11_bit_69 (fun _ hh => hh)
    · refine s_iconst o dX11_bit_64 ?_
      refine s_goto (tgt := 69) o dX11_bit_65 (by decide) ?_
      exact s_iret o rfl i_int (r32 rfl) dX11_bit_69 (fun _ hh => hh)
noncomputable def t_bit_40  (l1 : Int) (l2 : Int) : Mo TS Int :=
  t_bit_45 l1 l2 3
theorem st_bit_40 {Γ : Gm} {h : CH} {d : Nat} (hT : HT h) (o : Ok Γ "LazyForgeModel" cX11_bit 3 (Option.some Jvm.ClassFile.FieldType.int) (d + 1))   (l1 : Int) (l2 : Int) (hl1 : R32 l1) (hl2 : R32 l2) : Sx Γ (fun t => (h, t)) (fun a s => mt Γ = (0, a, ((h, s) : Wd))) 40 [(0, vA (mg Γ) 21), (1, vI l1), (2, vI l2)] [vA (mg Γ) 21] (t_bit_40 l1 l2) := by
  unfold t_bit_40
  refine s_iconst o dX11_bit_40 ?_
  refine s_goto (tgt := 45) o dX11_bit_41 (by decide) ?_
  exact st_bit_45 hT o l1 l2 3 hl1 hl2 (r32 rfl)
noncomputable def t_bit (l1 : Int) (l2 : Int) : Mo TS Int :=
  bnd (t_codeOf l1) fun v1 =>
  bnd (ss 0 v1) fun _ =>
  bnd (gs 0) fun v2 =>
  if v2 ≤ 0 then
    if l2 < 0 then
      t_bit_40 l1 l2
    else
      bnd (rd 82 640 l1) fun v3 =>
      if l2 < (ishl 1 v3) then
        t_bit_45 l1 l2 0
      else
        t_bit_40 l1 l2
  else
    bnd (gs 0) fun v4 =>
    t_bit_45 l1 l2 v4
theorem st_bit (g : gC) (d : Nat) (h : CH) (hT : HT h) (l1 : Int) (l2 : Int) (hl1 : R32 l1) (hl2 : R32 l2) : SF g yX11_bit (Cond.code yX11_bit cX11_bit 3 (Option.some Jvm.ClassFile.FieldType.int)) (Option.some Jvm.ClassFile.FieldType.int) (d + 1) [vA g 21, vI l1, vI l2] (fun t => (h, t)) (t_bit l1 l2) := by
  refine SF.of (lv := [(0, vA g 21), (1, vI l1), (2, vI l2)]) (by decide) (wt_A (wt_I (wt_I wt_0))) rfl (by simp only [la_A, la_I, la_J, la_0]) (fun Γ hg hnm o => ?_)
  subst hg
  have o : Ok Γ "LazyForgeModel" cX11_bit 3 (Option.some Jvm.ClassFile.FieldType.int) (d + 1) := o
  unfold t_bit
  refine s_aload_n o dX11_bit_0 rfl 0 rfl ?_
  refine s_aload_n o dX11_bit_1 rfl 0 rfl ?_
  refine s_iload_n o dX11_bit_2 rfl 1 rfl ?_
  refine s_cv (d := d + 0) (C := "LazyForgeModel") (As := [vI l1]) (st := [vA (mg Γ) 21]) o (st_codeOf (mg Γ) d h hT l1 hl1) mw_X11_codeOf rfl (Or.inl (lw_all_tbl q3420)) (lw_all_tbl qs161) (lw_all_tbl q3422) (fun t => rc_t o hT t) (wt_A wt_0) rfl dX11_bit_3 rfl (rs := fun r => [vI r, vA (mg Γ) 21]) (fun _ => rfl) (fun v1 hv1 => ?_)
  refine r_tpf vI rfl o hT tf_thrown tj_thrown (lw_all_tbl q2504) dX11_bit_6 (hv1 _ rfl) ty_int ?_
  refine s_aload_n o dX11_bit_9 rfl 0 rfl ?_
  refine s_aload_n o dX11_bit_10 rfl 0 rfl ?_
  refine r_tgf vI rfl o hT tf_thrown tj_thrown (lw_all_tbl q2504) dX11_bit_11 (fun v2 hv2 => ?_)
  refine s_if_le (tgt := 24) o dX11_bit_14 (by decide) hv2 ?_ ?_
  · refine s_iload_n o dX11_bit_24 rfl 2 rfl ?_
    refine s_if_lt (tgt := 40) o dX11_bit_25 (by decide) hl2 ?_ ?_
    · exact st_bit_40 hT o l1 l2 hl1 hl2
    · refine s_iload_n o dX11_bit_28 rfl 2 rfl ?_
      refine s_iconst o dX11_bit_29 ?_
      refine s_aload_n o dX11_bit_30 rfl 0 rfl ?_
      refine s_tga (x := 75) o hT tf_parameterCounts ta_parameterCounts (lw_all_tbl q2586) dX11_bit_31 ?_
      refine s_iload_n o dX11_bit_34 rfl 1 rfl ?_
      refine r_tiald o hT tr_parameterCounts hl1 dX11_bit_35 (fun v3 hv3 => ?_)
      refine s_ishl o dX11_bit_36 ?_
      refine s_icmp_lt (tgt := 44) o dX11_bit_37 (by decide) hl2 (ishl_R _ _) ?_ ?_
      · refine s_iconst o dX11_bit_44 ?_
        exact st_bit_45 hT o l1 l2 0 hl1 hl2 (r32 rfl)
      · exact st_bit_40 hT o l1 l2 hl1 hl2
  · refine s_aload_n o dX11_bit_17 rfl 0 rfl ?_
    refine r_tgf vI rfl o hT tf_thrown tj_thrown (lw_all_tbl q2504) dX11_bit_18 (fun v4 hv4 => ?_)
    refine s_goto (tgt := 45) o dX11_bit_21 (by decide) ?_
    exact st_bit_45 hT o l1 l2 v4 hl1 hl2 hv4
theorem dX11_called_0 : decode cX11_called 0 = .ok (.aload_n 0, 1) := by decide +kernel
theorem dX11_called_1 : decode cX11_called 1 = .ok (.aload_n 0, 1) := by decide +kernel
theorem dX11_called_2 : decode cX11_called 2 = .ok (.iload_n 1, 1) := by decide +kernel
theorem dX11_called_3 : decode cX11_called 3 = .ok (.invokevirtual 811, 3) := by decide +kernel
theorem dX11_called_6 : decode cX11_called 6 = .ok (.putfield 251, 3) := by decide +kernel
theorem dX11_called_9 : decode cX11_called 9 = .ok (.aload_n 0, 1) := by decide +kernel
theorem dX11_called_10 : decode cX11_called 10 = .ok (.getfield 251, 3) := by decide +kernel
theorem dX11_called_13 : decode cX11_called 13 = .ok (.ifCond .le 7, 3) := by decide +kernel
theorem dX11_called_16 : decode cX11_called 16 = .ok (.iconst 0, 1) := by decide +kernel
theorem dX11_called_17 : decode cX11_called 17 = .ok (.goto 9, 3) := by decide +kernel
theorem dX11_called_20 : decode cX11_called 20 = .ok (.aload_n 0, 1) := by decide +kernel
theorem dX11_called_21 : decode cX11_called 21 = .ok (.getfield 212, 3) := by decide +kernel
theorem dX11_called_24 : decode cX11_called 24 = .ok (.iload_n 1, 1) := by decide +kernel
theorem dX11_called_25 : decode cX11_called 25 = .ok (.iaload, 1) := by decide +kernel
theorem dX11_called_26 : decode cX11_called 26 = .ok (.ireturn, 1) := by decide +kernel
theorem mw_X11_called : MW yX11_called (Cond.code yX11_called cX11_called 2 (Option.some Jvm.ClassFile.FieldType.int)) cX11_called 2 (Option.some Jvm.ClassFile.FieldType.int) 1 := ⟨rfl, ⟨(lw_all_tbl q3443), rfl, (lw_all_tbl q173)⟩, rfl, ⟨by decide, by decide⟩, by decide +kernel⟩
noncomputable def t_called (l1 : Int) : Mo TS Int :=
  bnd (t_codeOf l1) fun v1 =>
  bnd (ss 0 v1) fun _ =>
  bnd (gs 0) fun v2 =>
  if v2 ≤ 0 then
    bnd (rd 110 640 l1) fun v3 =>
    pr v3
  else
    pr 0
theorem st_called (g : gC) (d : Nat) (h : CH) (hT : HT h) (l1 : Int) (hl1 : R32 l1) : SF g yX11_called (Cond.code yX11_called cX11_called 2 (Option.some Jvm.ClassFile.FieldType.int)) (Option.some Jvm.ClassFile.FieldType.int) (d + 1) [vA g 21, vI l1] (fun t => (h, t)) (t_called l1) := by
  refine SF.of (lv := [(0, vA g 21), (1, vI l1)]) (by decide) (wt_A (wt_I wt_0)) rfl (by simp only [la_A, la_I, la_J, la_0]) (fun Γ hg hnm o => ?_)
  subst hg
  have o : Ok Γ "LazyForgeModel" cX11_called 2 (Option.some Jvm.ClassFile.FieldType.int) (d + 1) := o
  unfold t_called
  refine s_aload_n o dX11_called_0 rfl 0 rfl ?_
  refine s_aload_n o dX11_called_1 rfl 0 rfl ?_
  refine s_iload_n o dX11_called_2 rfl 1 rfl ?_
  refine s_cv (d := d + 0) (C := "LazyForgeModel") (As := [vI l1]) (st := [vA (mg Γ) 21]) o (st_codeOf (mg Γ) d h hT l1 hl1) mw_X11_codeOf rfl (Or.inl (lw_all_tbl q3420)) (lw_all_tbl qs161) (lw_all_tbl q3422) (fun t => rc_t o hT t) (wt_A wt_0) rfl dX11_called_3 rfl (rs := fun r => [vI r, vA (mg Γ) 21]) (fun _ => rfl) (fun v1 hv1 => ?_)
  refine r_tpf vI rfl o hT tf_thrown tj_thrown (lw_all_tbl q2504) dX11_called_6 (hv1 _ rfl) ty_int ?_
  refine s_aload_n o dX11_called_9 rfl 0 rfl ?_
  refine r_tgf vI rfl o hT tf_thrown tj_thrown (lw_all_tbl q2504) dX11_called_10 (fun v2 hv2 => ?_)
  refine s_if_le (tgt := 20) o dX11_called_13 (by decide) hv2 ?_ ?_
  · refine s_aload_n o dX11_called_20 rfl 0 rfl ?_
    refine s_tga (x := 87) o hT tf_calledCounts ta_calledCounts (lw_all_tbl q2614) dX11_called_21 ?_
    refine s_iload_n o dX11_called_24 rfl 1 rfl ?_
    refine r_tiald o hT tr_calledCounts hl1 dX11_called_25 (fun v3 hv3 => ?_)
    exact s_iret o rfl i_int hv3 dX11_called_26 (fun _ hh => hh)
  · refine s_iconst o dX11_called_16 ?_
    refine s_goto (tgt := 26) o dX11_called_17 (by decide) ?_
    exact s_iret o rfl i_int (r32 rfl) dX11_called_26 (fun _ hh => hh)
