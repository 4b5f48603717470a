/-! PRINTED: the component, 97 to 117 -/
set_option maxRecDepth 100000
theorem dX3_keepAll_0 : decode cX3_keepAll 0 = .ok (.iload_n 2, 1) := by decide +kernel
theorem dX3_keepAll_1 : decode cX3_keepAll 1 = .ok (.istore_n 3, 1) := by decide +kernel
theorem dX3_keepAll_2 : decode cX3_keepAll 2 = .ok (.iload_n 3, 1) := by decide +kernel
theorem dX3_keepAll_3 : decode cX3_keepAll 3 = .ok (.aload_n 1, 1) := by decide +kernel
theorem dX3_keepAll_4 : decode cX3_keepAll 4 = .ok (.arraylength, 1) := by decide +kernel
theorem dX3_keepAll_5 : decode cX3_keepAll 5 = .ok (.if_icmp .ge 33, 3) := by decide +kernel
theorem dX3_keepAll_8 : decode cX3_keepAll 8 = .ok (.aload_n 1, 1) := by decide +kernel
theorem dX3_keepAll_9 : decode cX3_keepAll 9 = .ok (.iload_n 3, 1) := by decide +kernel
theorem dX3_keepAll_10 : decode cX3_keepAll 10 = .ok (.aaload, 1) := by decide +kernel
theorem dX3_keepAll_11 : decode cX3_keepAll 11 = .ok (.aload_n 0, 1) := by decide +kernel
theorem dX3_keepAll_12 : decode cX3_keepAll 12 = .ok (.invokevirtual 158, 3) := by decide +kernel
theorem dX3_keepAll_15 : decode cX3_keepAll 15 = .ok (.lstore 4, 2) := by decide +kernel
theorem dX3_keepAll_17 : decode cX3_keepAll 17 = .ok (.lload 4, 2) := by decide +kernel
theorem dX3_keepAll_19 : decode cX3_keepAll 19 = .ok (.lconst 0, 1) := by decide +kernel
theorem dX3_keepAll_20 : decode cX3_keepAll 20 = .ok (.lcmp, 1) := by decide +kernel
theorem dX3_keepAll_21 : decode cX3_keepAll 21 = .ok (.ifCond .ge 5, 3) := by decide +kernel
theorem dX3_keepAll_24 : decode cX3_keepAll 24 = .ok (.iconst 0, 1) := by decide +kernel
theorem dX3_keepAll_25 : decode cX3_keepAll 25 = .ok (.ireturn, 1) := by decide +kernel
theorem dX3_keepAll_26 : decode cX3_keepAll 26 = .ok (.aload_n 0, 1) := by decide +kernel
theorem dX3_keepAll_27 : decode cX3_keepAll 27 = .ok (.lload 4, 2) := by decide +kernel
theorem dX3_keepAll_29 : decode cX3_keepAll 29 = .ok (.invokevirtual 162, 3) := by decide +kernel
theorem dX3_keepAll_32 : decode cX3_keepAll 32 = .ok (.iinc 3 1, 3) := by decide +kernel
theorem dX3_keepAll_35 : decode cX3_keepAll 35 = .ok (.goto (-33), 3) := by decide +kernel
theorem dX3_keepAll_38 : decode cX3_keepAll 38 = .ok (.iconst 1, 1) := by decide +kernel
theorem dX3_keepAll_39 : decode cX3_keepAll 39 = .ok (.ireturn, 1) := by decide +kernel
theorem mw_X3_keepAll : MW yX3_keepAll (Cond.code yX3_keepAll cX3_keepAll 6 (Option.some Jvm.ClassFile.FieldType.boolean)) cX3_keepAll 6 (Option.some Jvm.ClassFile.FieldType.boolean) 2 := ⟨rfl, ⟨(lw_all_tbl q2246), rfl, (lw_all_tbl q165)⟩, rfl, ⟨by decide, by decide⟩, by decide +kernel⟩
abbrev okc_X3_keepAll_2 (x : Int × Int × Int) : Prop := R32 x.2.2
abbrev lvc_X3_keepAll_2 (Γ : Gm) (x : Int × Int × Int) : List (Nat × Value) := [(0, vA (mg Γ) x.1), (1, vA (mg Γ) x.2.1), (3, vI x.2.2)]
noncomputable def c_X3_keepAll_2b {A : Type} (k_24 : Mo CH A) (k_38 : Mo CH A) (l0 : Int) (l1 : Int) (l3 : Int) : Mo CH ((Int × Int × Int) ⊕ A) :=
  bnd (aln l1) fun v1 =>
  if v1 ≤ l3 then
    lo k_38
  else
    bnd (ald 5 l1 l3) fun v2 =>
    bnd (v_X4_keep v2 l0) fun v3 =>
    if 0 ≤ v3 then
      bnd (isk 103 l0) fun _ =>
      bnd (c_X3_give l0 v3) fun _ =>
      pr (.inl (l0, l1, (w32 (l3 + 1))))
    else
      lo k_24
theorem sc_X3_keepAll_2b {Γ : Gm} {ts : TS} {d : Nat} (o : Ok Γ "LazyForge$Machine" cX3_keepAll 6 (Option.some Jvm.ClassFile.FieldType.boolean) (d + 206)) {A : Type} {K : A → CH → Prop} (k_24 : Mo CH A) (k_38 : Mo CH A) (hk_24 : Sx Γ (fun h => (h, ts)) K 24 [] [] (k_24)) (hk_38 : Sx Γ (fun h => (h, ts)) K 38 [] [] (k_38)) (l0 : Int) (l1 : Int) (l3 : Int) (hl3 : R32 l3) : Sx Γ (fun h => (h, ts)) (KL Γ (fun h => (h, ts)) okc_X3_keepAll_2 K 2 (lvc_X3_keepAll_2 Γ) []) 2 [(0, vA (mg Γ) l0), (1, vA (mg Γ) l1), (3, vI l3)] [] (c_X3_keepAll_2b k_24 k_38 l0 l1 l3) := by
  unfold c_X3_keepAll_2b
  refine s_iload_n o dX3_keepAll_2 rfl 2 rfl ?_
  refine s_aload_n o dX3_keepAll_3 rfl 1 rfl ?_
  refine s_alen o dX3_keepAll_4 (fun v1 hv1 => ?_)
  refine s_icmp_ge (tgt := 38) o dX3_keepAll_5 (by decide) hl3 (rN hv1) ?_ ?_
  · refine r_to [] [] rfl ?_
    exact s_lo hk_38
  · refine s_aload_n o dX3_keepAll_8 rfl 1 rfl ?_
    refine s_iload_n o dX3_keepAll_9 rfl 2 rfl ?_
    refine r_aald (kd := 5) o (by decide) rfl hl3 dX3_keepAll_10 (fun v2 => ?_)
    refine s_aload_n o dX3_keepAll_11 rfl 0 rfl ?_
    refine s_cu (d := d + 205) (As := [vA (mg Γ) l0]) (st := []) (owner := "LazyForge$Part") o (sv_X4_keep (mg Γ) d ts v2 l0) rfl (lw_all_tbl q2247) (lw_all_tbl q2249) (Or.inl q2248) ⟨by decide, by decide⟩ (by decide +kernel) wt_0 rfl dX3_keepAll_12 rfl (rs := fun r => [vJ r]) (fun _ => rfl) (fun v3 hv3 => ?_)
    refine r_lstore o dX3_keepAll_15 rfl ⟨(Nat.ne_of_beq_eq_false rfl), (Nat.ne_of_beq_eq_false rfl), (fun _ => (vA_cat (mg Γ) l0)), ⟨(Nat.ne_of_beq_eq_false rfl), (Nat.ne_of_beq_eq_false rfl), (fun _ => (vA_cat (mg Γ) l1)), ⟨(Nat.ne_of_beq_eq_false rfl), (Nat.ne_of_beq_eq_false rfl), (fun _ => rfl), trivial⟩⟩⟩ ?_
    refine s_lload o dX3_keepAll_17 0 rfl ?_
    refine s_lconst (x := 0) o dX3_keepAll_19 rfl ?_
    refine s_lcmp_ge (tgt := 26) o dX3_keepAll_20 dX3_keepAll_21 (by decide) (hv3 _ rfl) (r64 rfl) ?_ ?_
    · refine s_aload_n o dX3_keepAll_26 rfl 1 rfl ?_
      refine s_lload o dX3_keepAll_27 0 rfl ?_
      refine s_cvC (d := d + 205) (As := [vJ v3]) (st := []) (c := 3) o (sc_X3_give (mg Γ) (d + 203) ts l0 v3 (hv3 _ rfl)) mw_X3_give rfl (Or.inl (lw_all_tbl q2186)) rfl (lw_all_tbl q2188) (lw_all_tbl q2187) wt_0 rfl dX3_keepAll_29 rfl (rs := fun _ => []) (fun _ => rfl) (fun _ _ => ?_)
      refine r_iinc (j := 3) o dX3_keepAll_32 rfl rfl [(4, vJ v3), (0, vA (mg Γ) l0), (1, vA (mg Γ) l1)] [0, 1, 2] rfl ⟨(Nat.ne_of_beq_eq_false rfl), (fun e => absurd e (Nat.ne_of_beq_eq_false rfl)), ⟨(Nat.ne_of_beq_eq_false rfl), (fun _ => (vA_cat (mg Γ) l0)), ⟨(Nat.ne_of_beq_eq_false rfl), (fun _ => (vA_cat (mg Γ) l1)), trivial⟩⟩⟩ ?_
      refine s_goto (tgt := 2) o dX3_keepAll_35 (by decide) ?_
      refine r_to [(0, vA (mg Γ) l0), (1, vA (mg Γ) l1), (3, vI (w32 (l3 + 1)))] [2, 3, 0] rfl ?_
      exact s_back (w32_R _) rfl
    · refine r_to [] [] rfl ?_
      exact s_lo hk_24
noncomputable def c_X3_keepAll_2 {A : Type} (k_24 : Mo CH A) (k_38 : Mo CH A) (l0 : Int) (l1 : Int) (l3 : Int) : Mo CH A := Loop (fun x => c_X3_keepAll_2b k_24 k_38 x.1 x.2.1 x.2.2) (l0, l1, l3)
theorem sc_X3_keepAll_2 {Γ : Gm} {ts : TS} {d : Nat} (o : Ok Γ "LazyForge$Machine" cX3_keepAll 6 (Option.some Jvm.ClassFile.FieldType.boolean) (d + 206)) {A : Type} {K : A → CH → Prop} (k_24 : Mo CH A) (k_38 : Mo CH A) (hk_24 : Sx Γ (fun h => (h, ts)) K 24 [] [] (k_24)) (hk_38 : Sx Γ (fun h => (h, ts)) K 38 [] [] (k_38)) (l0 : Int) (l1 : Int) (l3 : Int) (hl3 : R32 l3) : Sx Γ (fun h => (h, ts)) K 2 [(0, vA (mg Γ) l0), (1, vA (mg Γ) l1), (3, vI l3)] [] (c_X3_keepAll_2 k_24 k_38 l0 l1 l3) :=
  s_loop okc_X3_keepAll_2 (lvc_X3_keepAll_2 Γ) (fun x hx => sc_X3_keepAll_2b o k_24 k_38 hk_24 hk_38 x.1 x.2.1 x.2.2 hx) (x := (l0, l1, l3)) hl3
noncomputable def c_X3_keepAll (l0 : Int) (l1 : Int) (l2 : Int) : Mo CH Int :=
  c_X3_keepAll_2
    (pr 0)
    (pr 1) l0 l1 l2
theorem sc_X3_keepAll (g : gC) (d : Nat) (ts : TS) (l0 : Int) (l1 : Int) (l2 : Int) (hl2 : R32 l2) : SF g yX3_keepAll (Cond.code yX3_keepAll cX3_keepAll 6 (Option.some Jvm.ClassFile.FieldType.boolean)) (Option.some Jvm.ClassFile.FieldType.boolean) (d + 206) [vA g l0, vA g l1, vI l2] (fun h => (h, ts)) (c_X3_keepAll l0 l1 l2) := by
  refine SF.of (lv := [(0, vA g l0), (1, vA g l1), (2, vI l2)]) (by decide) (wt_A (wt_A (wt_I wt_0))) rfl (by simp only [la_A, la_I, la_J, la_0]) (fun Γ hg hnm o => ?_)
  subst hg
  have o : Ok Γ "LazyForge$Machine" cX3_keepAll 6 (Option.some Jvm.ClassFile.FieldType.boolean) (d + 206) := o
  unfold c_X3_keepAll
  refine s_iload_n o dX3_keepAll_0 rfl 2 rfl ?_
  refine r_istore_n o dX3_keepAll_1 rfl rfl ⟨(Nat.ne_of_beq_eq_false rfl), (fun _ => (vA_cat (mg Γ) l0)), ⟨(Nat.ne_of_beq_eq_false rfl), (fun _ => (vA_cat (mg Γ) l1)), ⟨(Nat.ne_of_beq_eq_false rfl), (fun _ => rfl), trivial⟩⟩⟩ ?_
  refine r_to [(0, vA (mg Γ) l0), (1, vA (mg Γ) l1), (3, vI l2)] [1, 2, 0] rfl ?_
  refine sc_X3_keepAll_2 o _ _ ?_ ?_ l0 l1 l2 hl2
  · refine s_iconst o dX3_keepAll_24 ?_
    exact s_iret o rfl i_boolean (Or.inl rfl) dX3_keepAll_25 (fun _ hh => hh)
  · refine s_iconst o dX3_keepAll_38 ?_
    exact s_iret o rfl i_boolean (Or.inr rfl) dX3_keepAll_39 (fun _ hh => hh)
theorem dX3_clear_0 : decode cX3_clear 0 = .ok (.aload_n 0, 1) := by decide +kernel
theorem dX3_clear_1 : decode cX3_clear 1 = .ok (.iconst 0, 1) := by decide +kernel
theorem dX3_clear_2 : decode cX3_clear 2 = .ok (.putfield 71, 3) := by decide +kernel
theorem dX3_clear_5 : decode cX3_clear 5 = .ok (.aload_n 0, 1) := by decide +kernel
theorem dX3_clear_6 : decode cX3_clear 6 = .ok (.iconst 0, 1) := by decide +kernel
theorem dX3_clear_7 : decode cX3_clear 7 = .ok (.putfield 85, 3) := by decide +kernel
theorem dX3_clear_10 : decode cX3_clear 10 = .ok (.aload_n 0, 1) := by decide +kernel
theorem dX3_clear_11 : decode cX3_clear 11 = .ok (.iconst 0, 1) := by decide +kernel
theorem dX3_clear_12 : decode cX3_clear 12 = .ok (.putfield 98, 3) := by decide +kernel
theorem dX3_clear_15 : decode cX3_clear 15 = .ok (.aload_n 0, 1) := by decide +kernel
theorem dX3_clear_16 : decode cX3_clear 16 = .ok (.iconst 0, 1) := by decide +kernel
theorem dX3_clear_17 : decode cX3_clear 17 = .ok (.putfield 169, 3) := by decide +kernel
theorem dX3_clear_20 : decode cX3_clear 20 = .ok (.aload_n 0, 1) := by decide +kernel
theorem dX3_clear_21 : decode cX3_clear 21 = .ok (.iconst 0, 1) := by decide +kernel
theorem dX3_clear_22 : decode cX3_clear 22 = .ok (.putfield 166, 3) := by decide +kernel
theorem dX3_clear_25 : decode cX3_clear 25 = .ok (.aload_n 0, 1) := by decide +kernel
theorem dX3_clear_26 : decode cX3_clear 26 = .ok (.iconst 0, 1) := by decide +kernel
theorem dX3_clear_27 : decode cX3_clear 27 = .ok (.putfield 268, 3) := by decide +kernel
theorem dX3_clear_30 : decode cX3_clear 30 = .ok (.aload_n 0, 1) := by decide +kernel
theorem dX3_clear_31 : decode cX3_clear 31 = .ok (.iconst 0, 1) := by decide +kernel
theorem dX3_clear_32 : decode cX3_clear 32 = .ok (.putfield 101, 3) := by decide +kernel
theorem dX3_clear_35 : decode cX3_clear 35 = .ok (.aload_n 0, 1) := by decide +kernel
theorem dX3_clear_36 : decode cX3_clear 36 = .ok (.iconst 0, 1) := by decide +kernel
theorem dX3_clear_37 : decode cX3_clear 37 = .ok (.putfield 104, 3) := by decide +kernel
theorem dX3_clear_40 : decode cX3_clear 40 = .ok (.aload_n 0, 1) := by decide +kernel
theorem dX3_clear_41 : decode cX3_clear 41 = .ok (.iconst 0, 1) := by decide +kernel
theorem dX3_clear_42 : decode cX3_clear 42 = .ok (.putfield 221, 3) := by decide +kernel
theorem dX3_clear_45 : decode cX3_clear 45 = .ok (.aload_n 0, 1) := by decide +kernel
theorem dX3_clear_46 : decode cX3_clear 46 = .ok (.iconst 0, 1) := by decide +kernel
theorem dX3_clear_47 : decode cX3_clear 47 = .ok (.putfield 111, 3) := by decide +kernel
theorem dX3_clear_50 : decode cX3_clear 50 = .ok (.aload_n 0, 1) := by decide +kernel
theorem dX3_clear_51 : decode cX3_clear 51 = .ok (.iconst 0, 1) := by decide +kernel
theorem dX3_clear_52 : decode cX3_clear 52 = .ok (.putfield 138, 3) := by decide +kernel
theorem dX3_clear_55 : decode cX3_clear 55 = .ok (.aload_n 0, 1) := by decide +kernel
theorem dX3_clear_56 : decode cX3_clear 56 = .ok (.iconst 0, 1) := by decide +kernel
theorem dX3_clear_57 : decode cX3_clear 57 = .ok (.putfield 125, 3) := by decide +kernel
theorem dX3_clear_60 : decode cX3_clear 60 = .ok (.aload_n 0, 1) := by decide +kernel
theorem dX3_clear_61 : decode cX3_clear 61 = .ok (.iconst 0, 1) := by decide +kernel
theorem dX3_clear_62 : decode cX3_clear 62 = .ok (.putfield 120, 3) := by decide +kernel
theorem dX3_clear_65 : decode cX3_clear 65 = .ok (.aload_n 0, 1) := by decide +kernel
theorem dX3_clear_66 : decode cX3_clear 66 = .ok (.iconst 0, 1) := by decide +kernel
theorem dX3_clear_67 : decode cX3_clear 67 = .ok (.putfield 218, 3) := by decide +kernel
theorem dX3_clear_70 : decode cX3_clear 70 = .ok (.aload_n 0, 1) := by decide +kernel
theorem dX3_clear_71 : decode cX3_clear 71 = .ok (.iconst 0, 1) := by decide +kernel
theorem dX3_clear_72 : decode cX3_clear 72 = .ok (.putfield 306, 3) := by decide +kernel
theorem dX3_clear_75 : decode cX3_clear 75 = .ok (.return_, 1) := by decide +kernel
theorem mw_X3_clear : MW yX3_clear (Cond.code yX3_clear cX3_clear 1 (Option.none : Option Jvm.ClassFile.FieldType)) cX3_clear 1 (Option.none : Option Jvm.ClassFile.FieldType) 0 := ⟨rfl, ⟨(lw_all_tbl q738), rfl, (lw_all_tbl q165)⟩, rfl, ⟨by decide, by decide⟩, by decide +kernel⟩
noncomputable def c_X3_clear (l0 : Int) : Mo CH Int :=
  bnd (pf [103] 8 l0 0) fun _ =>
  bnd (pf [103] 10 l0 0) fun _ =>
  bnd (pf [103] 12 l0 0) fun _ =>
  bnd (pf [103] 13 l0 0) fun _ =>
  bnd (pf [103] 15 l0 0) fun _ =>
  bnd (pf [103] 21 l0 0) fun _ =>
  bnd (pf [103] 22 l0 0) fun _ =>
  bnd (pf [103] 23 l0 0) fun _ =>
  bnd (pf [103] 24 l0 0) fun _ =>
  bnd (pf [103] 25 l0 0) fun _ =>
  bnd (pf [103] 26 l0 0) fun _ =>
  bnd (pf [103] 27 l0 0) fun _ =>
  bnd (pf [103] 28 l0 0) fun _ =>
  bnd (pf [103] 29 l0 0) fun _ =>
  bnd (pf [103] 30 l0 0) fun _ =>
  pr 0
theorem sc_X3_clear (g : gC) (d : Nat) (ts : TS) (l0 : Int) : SF g yX3_clear (Cond.code yX3_clear cX3_clear 1 (Option.none : Option Jvm.ClassFile.FieldType)) (Option.none : Option Jvm.ClassFile.FieldType) (d + 0) [vA g l0] (fun h => (h, ts)) (c_X3_clear l0) := by
  refine SF.of (lv := [(0, vA g l0)]) (by decide) (wt_A wt_0) rfl (by simp only [la_A, la_I, la_J, la_0]) (fun Γ hg hnm o => ?_)
  subst hg
  have o : Ok Γ "LazyForge$Machine" cX3_clear 1 (Option.none : Option Jvm.ClassFile.FieldType) (d + 0) := o
  unfold c_X3_clear
  refine s_aload_n o dX3_clear_0 rfl 0 rfl ?_
  refine s_iconst o dX3_clear_1 ?_
  refine r_putf vI rfl o cf_X3_waits (Or.inl (lw_all_tbl q337)) dX3_clear_2 (Or.inl rfl) (r32 rfl) ty_int ?_
  refine s_aload_n o dX3_clear_5 rfl 0 rfl ?_
  refine s_iconst o dX3_clear_6 ?_
  refine r_putf vI rfl o cf_X3_has (Or.inl (lw_all_tbl q339)) dX3_clear_7 (Or.inl rfl) (r32 rfl) ty_int ?_
  refine s_aload_n o dX3_clear_10 rfl 0 rfl ?_
  refine s_iconst o dX3_clear_11 ?_
  refine r_putf vI rfl o cf_X3_base (Or.inl (lw_all_tbl q341)) dX3_clear_12 (Or.inl rfl) (r32 rfl) ty_int ?_
  refine s_aload_n o dX3_clear_15 rfl 0 rfl ?_
  refine s_iconst o dX3_clear_16 ?_
  refine r_putf vI rfl o cf_X3_top (Or.inl (lw_all_tbl q342)) dX3_clear_17 (Or.inl rfl) (r32 rfl) ty_int ?_
  refine s_aload_n o dX3_clear_20 rfl 0 rfl ?_
  refine s_iconst o dX3_clear_21 ?_
  refine r_putf vI rfl o cf_X3_frames (Or.inl (lw_all_tbl q344)) dX3_clear_22 (Or.inl rfl) (r32 rfl) ty_int ?_
  refine s_aload_n o dX3_clear_25 rfl 0 rfl ?_
  refine s_iconst o dX3_clear_26 ?_
  refine r_putf vI rfl o cf_X3_rowSize (Or.inl (lw_all_tbl q354)) dX3_clear_27 (Or.inl rfl) (r32 rfl) ty_int ?_
  refine s_aload_n o dX3_clear_30 rfl 0 rfl ?_
  refine s_iconst o dX3_clear_31 ?_
  refine r_putf vI rfl o cf_X3_ends (Or.inl (lw_all_tbl q355)) dX3_clear_32 (Or.inl rfl) (r32 rfl) ty_int ?_
  refine s_aload_n o dX3_clear_35 rfl 0 rfl ?_
  refine s_iconst o dX3_clear_36 ?_
  refine r_putf vI rfl o cf_X3_why (Or.inl (lw_all_tbl q357)) dX3_clear_37 (Or.inl rfl) (r32 rfl) ty_int ?_
  refine s_aload_n o dX3_clear_40 rfl 0 rfl ?_
  refine s_iconst o dX3_clear_41 ?_
  refine r_putf vI rfl o cf_X3_calls (Or.inl (lw_all_tbl q360)) dX3_clear_42 (Or.inl rfl) (r32 rfl) ty_int ?_
  refine s_aload_n o dX3_clear_45 rfl 0 rfl ?_
  refine s_iconst o dX3_clear_46 ?_
  refine r_putf vI rfl o cf_X3_used (Or.inl (lw_all_tbl q361)) dX3_clear_47 (Or.inl rfl) (r32 rfl) ty_int ?_
  refine s_aload_n o dX3_clear_50 rfl 0 rfl ?_
  refine s_iconst o dX3_clear_51 ?_
  refine r_putf vI rfl o cf_X3_suspensions (Or.inl (lw_all_tbl q363)) dX3_clear_52 (Or.inl rfl) (r32 rfl) ty_int ?_
  refine s_aload_n o dX3_clear_55 rfl 0 rfl ?_
  refine s_iconst o dX3_clear_56 ?_
  refine r_putf vI rfl o cf_X3_partsOfCalls (Or.inl (lw_all_tbl q365)) dX3_clear_57 (Or.inl rfl) (r32 rfl) ty_int ?_
  refine s_aload_n o dX3_clear_60 rfl 0 rfl ?_
  refine s_iconst o dX3_clear_61 ?_
  refine r_putf vI rfl o cf_X3_objects (Or.inl (lw_all_tbl q367)) dX3_clear_62 (Or.inl rfl) (r32 rfl) ty_int ?_
  refine s_aload_n o dX3_clear_65 rfl 0 rfl ?_
  refine s_iconst o dX3_clear_66 ?_
  refine r_putf vI rfl o cf_X3_updates (Or.inl (lw_all_tbl q370)) dX3_clear_67 (Or.inl rfl) (r32 rfl) ty_int ?_
  refine s_aload_n o dX3_clear_70 rfl 0 rfl ?_
  refine s_iconst o dX3_clear_71 ?_
  refine r_putf vI rfl o cf_X3_atOnce (Or.inl (lw_all_tbl q374)) dX3_clear_72 (Or.inl rfl) (r32 rfl) ty_int ?_
  exact s_vret o rfl dX3_clear_75 (fun _ hh => hh)
theorem dX10_step_0 : decode cX10_step 0 = .ok (.aload_n 1, 1) := by decide +kernel
theorem dX10_step_1 : decode cX10_step 1 = .ok (.invokevirtual 7, 3) := by decide +kernel
theorem dX10_step_4 : decode cX10_step 4 = .ok (.return_, 1) := by decide +kernel
theorem mw_X10_step : MW yX10_step (Cond.code yX10_step cX10_step 3 (Option.none : Option Jvm.ClassFile.FieldType)) cX10_step 3 (Option.none : Option Jvm.ClassFile.FieldType) 2 := ⟨rfl, ⟨(lw_all_tbl q2378), rfl, (lw_all_tbl q172)⟩, rfl, ⟨by decide, by decide⟩, by decide +kernel⟩
noncomputable def c_X10_step (l0 : Int) (l1 : Int) (l2 : Int) : Mo CH Int :=
  bnd (isk 103 l1) fun _ =>
  bnd (c_X3_force l1) fun _ =>
  pr 0
theorem sc_X10_step (g : gC) (d : Nat) (ts : TS) (l0 : Int) (l1 : Int) (l2 : Int) (hl2 : R32 l2) : SF g yX10_step (Cond.code yX10_step cX10_step 3 (Option.none : Option Jvm.ClassFile.FieldType)) (Option.none : Option Jvm.ClassFile.FieldType) (d + 3) [vA g l0, vA g l1, vI l2] (fun h => (h, ts)) (c_X10_step l0 l1 l2) := by
  refine SF.of (lv := [(0, vA g l0), (1, vA g l1), (2, vI l2)]) (by decide) (wt_A (wt_A (wt_I wt_0))) rfl (by simp only [la_A, la_I, la_J, la_0]) (fun Γ hg hnm o => ?_)
  subst hg
  have o : Ok Γ "LazyForge$Force" cX10_step 3 (Option.none : Option Jvm.ClassFile.FieldType) (d + 3) := o
  unfold c_X10_step
  refine s_aload_n o dX10_step_0 rfl 1 rfl ?_
  refine s_cvC (d := d + 2) (As := []) (st := []) (c := 3) o (sc_X3_force (mg Γ) d ts l1) mw_X3_force rfl (Or.inl (lw_all_tbl q2379)) rfl (lw_all_tbl q2381) (lw_all_tbl q2380) wt_0 rfl dX10_step_1 rfl (rs := fun _ => []) (fun _ => rfl) (fun _ _ => ?_)
  exact s_vret o rfl dX10_step_4 (fun _ hh => hh)
theorem dX18_begin_0 : decode cX18_begin 0 = .ok (.aload_n 1, 1) := by decide +kernel
theorem dX18_begin_1 : decode cX18_begin 1 = .ok (.instanceof 50, 3) := by decide +kernel
theorem dX18_begin_4 : decode cX18_begin 4 = .ok (.ifCond .ne 10, 3) := by decide +kernel
theorem dX18_begin_7 : decode cX18_begin 7 = .ok (.aload_n 1, 1) := by decide +kernel
theorem dX18_begin_8 : decode cX18_begin 8 = .ok (.instanceof 52, 3) := by decide +kernel
theorem dX18_begin_11 : decode cX18_begin 11 = .ok (.ifCond .eq 9, 3) := by decide +kernel
theorem dX18_begin_14 : decode cX18_begin 14 = .ok (.aload_n 1, 1) := by decide +kernel
theorem dX18_begin_15 : decode cX18_begin 15 = .ok (.aload_n 0, 1) := by decide +kernel
theorem dX18_begin_16 : decode cX18_begin 16 = .ok (.invokevirtual 54, 3) := by decide +kernel
theorem dX18_begin_19 : decode cX18_begin 19 = .ok (.lreturn, 1) := by decide +kernel
theorem dX18_begin_20 : decode cX18_begin 20 = .ok (.aload_n 1, 1) := by decide +kernel
theorem dX18_begin_21 : decode cX18_begin 21 = .ok (.instanceof 58, 3) := by decide +kernel
theorem dX18_begin_24 : decode cX18_begin 24 = .ok (.ifCond .eq 12, 3) := by decide +kernel
theorem dX18_begin_27 : decode cX18_begin 27 = .ok (.aload_n 1, 1) := by decide +kernel
theorem dX18_begin_28 : decode cX18_begin 28 = .ok (.checkcast 58, 3) := by decide +kernel
theorem dX18_begin_31 : decode cX18_begin 31 = .ok (.aload_n 0, 1) := by decide +kernel
theorem dX18_begin_32 : decode cX18_begin 32 = .ok (.invokevirtual 60, 3) := by decide +kernel
theorem dX18_begin_35 : decode cX18_begin 35 = .ok (.lreturn, 1) := by decide +kernel
theorem dX18_begin_36 : decode cX18_begin 36 = .ok (.aload_n 1, 1) := by decide +kernel
theorem dX18_begin_37 : decode cX18_begin 37 = .ok (.instanceof 63, 3) := by decide +kernel
theorem dX18_begin_40 : decode cX18_begin 40 = .ok (.ifCond .eq 24, 3) := by decide +kernel
theorem dX18_begin_43 : decode cX18_begin 43 = .ok (.aload_n 1, 1) := by decide +kernel
theorem dX18_begin_44 : decode cX18_begin 44 = .ok (.checkcast 63, 3) := by decide +kernel
theorem dX18_begin_47 : decode cX18_begin 47 = .ok (.invokevirtual 65, 3) := by decide +kernel
theorem dX18_begin_50 : decode cX18_begin 50 = .ok (.ifCond .eq 14, 3) := by decide +kernel
theorem dX18_begin_53 : decode cX18_begin 53 = .ok (.aload_n 1, 1) := by decide +kernel
theorem dX18_begin_54 : decode cX18_begin 54 = .ok (.checkcast 63, 3) := by decide +kernel
theorem dX18_begin_57 : decode cX18_begin 57 = .ok (.aload_n 0, 1) := by decide +kernel
theorem dX18_begin_58 : decode cX18_begin 58 = .ok (.invokevirtual 69, 3) := by decide +kernel
theorem dX18_begin_61 : decode cX18_begin 61 = .ok (.goto 8, 3) := by decide +kernel
theorem dX18_begin_64 : decode cX18_begin 64 = .ok (.aload_n 0, 1) := by decide +kernel
theorem dX18_begin_65 : decode cX18_begin 65 = .ok (.aload_n 1, 1) := by decide +kernel
theorem dX18_begin_66 : decode cX18_begin 66 = .ok (.invokevirtual 70, 3) := by decide +kernel
theorem dX18_begin_69 : decode cX18_begin 69 = .ok (.lreturn, 1) := by decide +kernel
theorem mw_X18_begin : MW yX18_begin (Cond.code yX18_begin cX18_begin 2 (Option.some Jvm.ClassFile.FieldType.long)) cX18_begin 2 (Option.some Jvm.ClassFile.FieldType.long) 2 := ⟨rfl, ⟨(lw_all_tbl q2410), rfl, (lw_all_tbl q198)⟩, rfl, ⟨by decide, by decide⟩, by decide +kernel⟩
noncomputable def c_X18_begin_14  (l0 : Int) (l1 : Int) : Mo CH Int :=
  bnd (v_X4_keep l1 l0) fun v1 =>
  pr v1
theorem sc_X18_begin_14 {Γ : Gm} {ts : TS} {d : Nat} (o : Ok Γ "LazyForge$Let" cX18_begin 2 (Option.some Jvm.ClassFile.FieldType.long) (d + 206))   (l0 : Int) (l1 : Int) : Sx Γ (fun h => (h, ts)) (fun a s => mt Γ = (0, a, ((s, ts) : Wd))) 14 [(0, vA (mg Γ) l0), (1, vA (mg Γ) l1)] [] (c_X18_begin_14 l0 l1) := by
  unfold c_X18_begin_14
  refine s_aload_n o dX18_begin_14 rfl 1 rfl ?_
  refine s_aload_n o dX18_begin_15 rfl 0 rfl ?_
  refine s_cu (d := d + 205) (As := [vA (mg Γ) l0]) (st := []) (owner := "LazyForge$Part") o (sv_X4_keep (mg Γ) d ts l1 l0) rfl (lw_all_tbl q2413) (lw_all_tbl q2249) (Or.inl q2248) ⟨by decide, by decide⟩ (by decide +kernel) wt_0 rfl dX18_begin_16 rfl (rs := fun r => [vJ r]) (fun _ => rfl) (fun v1 hv1 => ?_)
  exact s_lret o rfl (hv1 _ rfl) dX18_begin_19 (fun _ hh => hh)
noncomputable def c_X18_begin_64  (l0 : Int) (l1 : Int) : Mo CH Int :=
  bnd (isk 103 l0) fun _ =>
  bnd (c_X3_reserve l0 l1) fun v1 =>
  pr v1
theorem sc_X18_begin_64 {Γ : Gm} {ts : TS} {d : Nat} (o : Ok Γ "LazyForge$Let" cX18_begin 2 (Option.some Jvm.ClassFile.FieldType.long) (d + 206))   (l0 : Int) (l1 : Int) : Sx Γ (fun h => (h, ts)) (fun a s => mt Γ = (0, a, ((s, ts) : Wd))) 64 [(0, vA (mg Γ) l0), (1, vA (mg Γ) l1)] [] (c_X18_begin_64 l0 l1) := by
  unfold c_X18_begin_64
  refine s_aload_n o dX18_begin_64 rfl 0 rfl ?_
  refine s_aload_n o dX18_begin_65 rfl 1 rfl ?_
  refine s_cvC (d := d + 205) (As := [vA (mg Γ) l1]) (st := []) (c := 3) o (sc_X3_reserve (mg Γ) (d + 203) ts l0 l1) mw_X3_reserve rfl (Or.inl (lw_all_tbl q2419)) rfl (lw_all_tbl q2161) (lw_all_tbl q2160) wt_0 rfl dX18_begin_66 rfl (rs := fun r => [vJ r]) (fun _ => rfl) (fun v1 hv1 => ?_)
  exact s_lret o rfl (hv1 _ rfl) dX18_begin_69 (fun _ hh => hh)
noncomputable def c_X18_begin (l0 : Int) (l1 : Int) : Mo CH Int :=
  bnd (ins 124 [118, 119, 120, 121, 122, 123, 124, 125, 126] l1) fun v1 =>
  if ¬ v1 = 0 then
    c_X18_begin_14 l0 l1
  else
    bnd (ins 119 [118, 119, 120, 121, 122, 123, 124, 125, 126] l1) fun v2 =>
    if v2 = 0 then
      bnd (ins 125 [118, 119, 120, 121, 122, 123, 124, 125, 126] l1) fun v3 =>
      if v3 = 0 then
        bnd (ins 121 [118, 119, 120, 121, 122, 123, 124, 125, 126] l1) fun v4 =>
        if v4 = 0 then
          c_X18_begin_64 l0 l1
        else
          bnd (ckk [121] l1) fun _ =>
          bnd (isk 121 l1) fun _ =>
          bnd (c_X21_isLess l1) fun v5 =>
          if v5 = 0 then
            c_X18_begin_64 l0 l1
          else
            bnd (ckk [121] l1) fun _ =>
            bnd (isk 121 l1) fun _ =>
            bnd (c_X21_begin l1 l0) fun v6 =>
            pr v6
      else
        bnd (ckk [125] l1) fun _ =>
        bnd (isk 125 l1) fun _ =>
        bnd (c_X25_begin l1 l0) fun v7 =>
        pr v7
    else
      c_X18_begin_14 l0 l1
theorem sc_X18_begin (g : gC) (d : Nat) (ts : TS) (l0 : Int) (l1 : Int) : SF g yX18_begin (Cond.code yX18_begin cX18_begin 2 (Option.some Jvm.ClassFile.FieldType.long)) (Option.some Jvm.ClassFile.FieldType.long) (d + 206) [vA g l0, vA g l1] (fun h => (h, ts)) (c_X18_begin l0 l1) := by
  refine SF.of (lv := [(0, vA g l0), (1, vA g l1)]) (by decide) (wt_A (wt_A wt_0)) rfl (by simp only [la_A, la_I, la_J, la_0]) (fun Γ hg hnm o => ?_)
  subst hg
  have o : Ok Γ "LazyForge$Let" cX18_begin 2 (Option.some Jvm.ClassFile.FieldType.long) (d + 206) := o
  unfold c_X18_begin
  refine s_aload_n o dX18_begin_0 rfl 1 rfl ?_
  refine s_inst o (is_X24 o) (lw_all_tbl q2411) dX18_begin_1 (fun v1 hv1 => ?_)
  refine s_if_ne (tgt := 14) o dX18_begin_4 (by decide) (rZ hv1) ?_ ?_
  · exact sc_X18_begin_14 o l0 l1
  · refine s_aload_n o dX18_begin_7 rfl 1 rfl ?_
    refine s_inst o (is_X19 o) (lw_all_tbl q2412) dX18_begin_8 (fun v2 hv2 => ?_)
    refine s_if_eq (tgt := 20) o dX18_begin_11 (by decide) (rZ hv2) ?_ ?_
    · refine s_aload_n o dX18_begin_20 rfl 1 rfl ?_
      refine s_inst o (is_X25 o) (lw_all_tbl q2414) dX18_begin_21 (fun v3 hv3 => ?_)
      refine s_if_eq (tgt := 36) o dX18_begin_24 (by decide) (rZ hv3) ?_ ?_
      · refine s_aload_n o dX18_begin_36 rfl 1 rfl ?_
        refine s_inst o (is_X21 o) (lw_all_tbl q2416) dX18_begin_37 (fun v4 hv4 => ?_)
        refine s_if_eq (tgt := 64) o dX18_begin_40 (by decide) (rZ hv4) ?_ ?_
        · exact sc_X18_begin_64 o l0 l1
        · refine s_aload_n o dX18_begin_43 rfl 1 rfl ?_
          refine s_cast o (cs_X21 o) (lw_all_tbl q2416) dX18_begin_44 ?_
          refine s_cvC (d := d + 205) (As := []) (st := []) (c := 21) o (sc_X21_isLess (mg Γ) (d + 201) ts l1) mw_X21_isLess rfl (Or.inl (lw_all_tbl q2417)) rfl (lw_all_tbl q1871) (lw_all_tbl q1870) wt_0 rfl dX18_begin_47 rfl (rs := fun r => [vI r]) (fun _ => rfl) (fun v5 hv5 => ?_)
          refine s_if_eq (tgt := 64) o dX18_begin_50 (by decide) (rZ (hv5 _ rfl)) ?_ ?_
          · exact sc_X18_begin_64 o l0 l1
          · refine s_aload_n o dX18_begin_53 rfl 1 rfl ?_
            refine s_cast o (cs_X21 o) (lw_all_tbl q2416) dX18_begin_54 ?_
            refine s_aload_n o dX18_begin_57 rfl 0 rfl ?_
            refine s_cvC (d := d + 205) (As := [vA (mg Γ) l0]) (st := []) (c := 21) o (sc_X21_begin (mg Γ) (d + 201) ts l1 l0) mw_X21_begin rfl (Or.inl (lw_all_tbl q2418)) rfl (lw_all_tbl q2271) (lw_all_tbl q2270) wt_0 rfl dX18_begin_58 rfl (rs := fun r => [vJ r]) (fun _ => rfl) (fun v6 hv6 => ?_)
            refine s_goto (tgt := 69) o dX18_begin_61 (by decide) ?_
            exact s_lret o rfl (hv6 _ rfl) dX18_begin_69 (fun _ hh => hh)
      · refine s_aload_n o dX18_begin_27 rfl 1 rfl ?_
        refine s_cast o (cs_X25 o) (lw_all_tbl q2414) dX18_begin_28 ?_
        refine s_aload_n o dX18_begin_31 rfl 0 rfl ?_
        refine s_cvC (d := d + 205) (As := [vA (mg Γ) l0]) (st := []) (c := 25) o (sc_X25_begin (mg Γ) (d + 202) ts l1 l0) mw_X25_begin rfl (Or.inl (lw_all_tbl q2415)) rfl (lw_all_tbl q2297) (lw_all_tbl q2296) wt_0 rfl dX18_begin_32 rfl (rs := fun r => [vJ r]) (fun _ => rfl) (fun v7 hv7 => ?_)
        exact s_lret o rfl (hv7 _ rfl) dX18_begin_35 (fun _ hh => hh)
    · exact sc_X18_begin_14 o l0 l1
theorem dX18_fill_0 : decode cX18_fill 0 = .ok (.aload_n 1, 1) := by decide +kernel
theorem dX18_fill_1 : decode cX18_fill 1 = .ok (.instanceof 50, 3) := by decide +kernel
theorem dX18_fill_4 : decode cX18_fill 4 = .ok (.ifCond .ne 10, 3) := by decide +kernel
theorem dX18_fill_7 : decode cX18_fill 7 = .ok (.aload_n 1, 1) := by decide +kernel
theorem dX18_fill_8 : decode cX18_fill 8 = .ok (.instanceof 52, 3) := by decide +kernel
theorem dX18_fill_11 : decode cX18_fill 11 = .ok (.ifCond .eq 5, 3) := by decide +kernel
theorem dX18_fill_14 : decode cX18_fill 14 = .ok (.iconst 1, 1) := by decide +kernel
theorem dX18_fill_15 : decode cX18_fill 15 = .ok (.ireturn, 1) := by decide +kernel
theorem dX18_fill_16 : decode cX18_fill 16 = .ok (.aload_n 1, 1) := by decide +kernel
theorem dX18_fill_17 : decode cX18_fill 17 = .ok (.instanceof 58, 3) := by decide +kernel
theorem dX18_fill_20 : decode cX18_fill 20 = .ok (.ifCond .eq 13, 3) := by decide +kernel
theorem dX18_fill_23 : decode cX18_fill 23 = .ok (.aload_n 1, 1) := by decide +kernel
theorem dX18_fill_24 : decode cX18_fill 24 = .ok (.checkcast 58, 3) := by decide +kernel
theorem dX18_fill_27 : decode cX18_fill 27 = .ok (.aload_n 0, 1) := by decide +kernel
theorem dX18_fill_28 : decode cX18_fill 28 = .ok (.lload_n 2, 1) := by decide +kernel
theorem dX18_fill_29 : decode cX18_fill 29 = .ok (.invokevirtual 73, 3) := by decide +kernel
theorem dX18_fill_32 : decode cX18_fill 32 = .ok (.ireturn, 1) := by decide +kernel
theorem dX18_fill_33 : decode cX18_fill 33 = .ok (.aload_n 1, 1) := by decide +kernel
theorem dX18_fill_34 : decode cX18_fill 34 = .ok (.instanceof 63, 3) := by decide +kernel
theorem dX18_fill_37 : decode cX18_fill 37 = .ok (.ifCond .eq 23, 3) := by decide +kernel
theorem dX18_fill_40 : decode cX18_fill 40 = .ok (.aload_n 1, 1) := by decide +kernel
theorem dX18_fill_41 : decode cX18_fill 41 = .ok (.checkcast 63, 3) := by decide +kernel
theorem dX18_fill_44 : decode cX18_fill 44 = .ok (.invokevirtual 65, 3) := by decide +kernel
theorem dX18_fill_47 : decode cX18_fill 47 = .ok (.ifCond .eq 13, 3) := by decide +kernel
theorem dX18_fill_50 : decode cX18_fill 50 = .ok (.aload_n 1, 1) := by decide +kernel
theorem dX18_fill_51 : decode cX18_fill 51 = .ok (.checkcast 63, 3) := by decide +kernel
theorem dX18_fill_54 : decode cX18_fill 54 = .ok (.aload_n 0, 1) := by decide +kernel
theorem dX18_fill_55 : decode cX18_fill 55 = .ok (.lload_n 2, 1) := by decide +kernel
theorem dX18_fill_56 : decode cX18_fill 56 = .ok (.invokevirtual 77, 3) := by decide +kernel
theorem dX18_fill_59 : decode cX18_fill 59 = .ok (.ireturn, 1) := by decide +kernel
theorem dX18_fill_60 : decode cX18_fill 60 = .ok (.aload_n 0, 1) := by decide +kernel
theorem dX18_fill_61 : decode cX18_fill 61 = .ok (.aload_n 1, 1) := by decide +kernel
theorem dX18_fill_62 : decode cX18_fill 62 = .ok (.lload_n 2, 1) := by decide +kernel
theorem dX18_fill_63 : decode cX18_fill 63 = .ok (.invokevirtual 78, 3) := by decide +kernel
theorem dX18_fill_66 : decode cX18_fill 66 = .ok (.iconst 1, 1) := by decide +kernel
theorem dX18_fill_67 : decode cX18_fill 67 = .ok (.ireturn, 1) := by decide +kernel
theorem mw_X18_fill : MW yX18_fill (Cond.code yX18_fill cX18_fill 4 (Option.some Jvm.ClassFile.FieldType.boolean)) cX18_fill 4 (Option.some Jvm.ClassFile.FieldType.boolean) 3 := ⟨rfl, ⟨(lw_all_tbl q2423), rfl, (lw_all_tbl q198)⟩, rfl, ⟨by decide, by decide⟩, by decide +kernel⟩
noncomputable def c_X18_fill_60  (l0 : Int) (l1 : Int) (l2 : Int) : Mo CH Int :=
  bnd (isk 103 l0) fun _ =>
  bnd (c_X3_capture l0 l1 l2) fun _ =>
  pr 1
theorem sc_X18_fill_60 {Γ : Gm} {ts : TS} {d : Nat} (o : Ok Γ "LazyForge$Let" cX18_fill 4 (Option.some Jvm.ClassFile.FieldType.boolean) (d + 206))   (l0 : Int) (l1 : Int) (l2 : Int) (hl2 : R64 l2) : Sx Γ (fun h => (h, ts)) (fun a s => mt Γ = (0, a, ((s, ts) : Wd))) 60 [(0, vA (mg Γ) l0), (1, vA (mg Γ) l1), (2, vJ l2)] [] (c_X18_fill_60 l0 l1 l2) := by
  unfold c_X18_fill_60
  refine s_aload_n o dX18_fill_60 rfl 0 rfl ?_
  refine s_aload_n o dX18_fill_61 rfl 1 rfl ?_
  refine s_lload_n o dX18_fill_62 rfl 2 rfl ?_
  refine s_cvC (d := d + 205) (As := [vA (mg Γ) l1, vJ l2]) (st := []) (c := 3) o (sc_X3_capture (mg Γ) (d + 204) ts l0 l1 l2 hl2) mw_X3_capture rfl (Or.inl (lw_all_tbl q2426)) rfl (lw_all_tbl q2263) (lw_all_tbl q2262) wt_0 rfl dX18_fill_63 rfl (rs := fun _ => []) (fun _ => rfl) (fun _ _ => ?_)
  refine s_iconst o dX18_fill_66 ?_
  exact s_iret o rfl i_boolean (Or.inr rfl) dX18_fill_67 (fun _ hh => hh)
noncomputable def c_X18_fill (l0 : Int) (l1 : Int) (l2 : Int) : Mo CH Int :=
  bnd (ins 124 [118, 119, 120, 121, 122, 123, 124, 125, 126] l1) fun v1 =>
  if ¬ v1 = 0 then
    pr 1
  else
    bnd (ins 119 [118, 119, 120, 121, 122, 123, 124, 125, 126] l1) fun v2 =>
    if v2 = 0 then
      bnd (ins 125 [118, 119, 120, 121, 122, 123, 124, 125, 126] l1) fun v3 =>
      if v3 = 0 then
        bnd (ins 121 [118, 119, 120, 121, 122, 123, 124, 125, 126] l1) fun v4 =>
        if v4 = 0 then
          c_X18_fill_60 l0 l1 l2
        else
          bnd (ckk [121] l1) fun _ =>
          bnd (isk 121 l1) fun _ =>
          bnd (c_X21_isLess l1) fun v5 =>
          if v5 = 0 then
            c_X18_fill_60 l0 l1 l2
          else
            bnd (ckk [121] l1) fun _ =>
            bnd (isk 121 l1) fun _ =>
            bnd (c_X21_fill l1 l0 l2) fun v6 =>
            pr v6
      else
        bnd (ckk [125] l1) fun _ =>
        bnd (isk 125 l1) fun _ =>
        bnd (c_X25_fill l1 l0 l2) fun v7 =>
        pr v7
    else
      pr 1
theorem sc_X18_fill (g : gC) (d : Nat) (ts : TS) (l0 : Int) (l1 : Int) (l2 : Int) (hl2 : R64 l2) : SF g yX18_fill (Cond.code yX18_fill cX18_fill 4 (Option.some Jvm.ClassFile.FieldType.boolean)) (Option.some Jvm.ClassFile.FieldType.boolean) (d + 206) [vA g l0, vA g l1, vJ l2] (fun h => (h, ts)) (c_X18_fill l0 l1 l2) := by
  refine SF.of (lv := [(0, vA g l0), (1, vA g l1), (2, vJ l2)]) (by decide) (wt_A (wt_A (wt_J wt_0))) rfl (by simp only [la_A, la_I, la_J, la_0]) (fun Γ hg hnm o => ?_)
  subst hg
  have o : Ok Γ "LazyForge$Let" cX18_fill 4 (Option.some Jvm.ClassFile.FieldType.boolean) (d + 206) := o
  unfold c_X18_fill
  refine s_aload_n o dX18_fill_0 rfl 1 rfl ?_
  refine s_inst o (is_X24 o) (lw_all_tbl q2411) dX18_fill_1 (fun v1 hv1 => ?_)
  refine s_if_ne (tgt := 14) o dX18_fill_4 (by decide) (rZ hv1) ?_ ?_
  · refine s_iconst o dX18_fill_14 ?_
    exact s_iret o rfl i_boolean (Or.inr rfl) dX18_fill_15 (fun _ hh => hh)
  · refine s_aload_n o dX18_fill_7 rfl 1 rfl ?_
    refine s_inst o (is_X19 o) (lw_all_tbl q2412) dX18_fill_8 (fun v2 hv2 => ?_)
    refine s_if_eq (tgt := 16) o dX18_fill_11 (by decide) (rZ hv2) ?_ ?_
    · refine s_aload_n o dX18_fill_16 rfl 1 rfl ?_
      refine s_inst o (is_X25 o) (lw_all_tbl q2414) dX18_fill_17 (fun v3 hv3 => ?_)
      refine s_if_eq (tgt := 33) o dX18_fill_20 (by decide) (rZ hv3) ?_ ?_
      · refine s_aload_n o dX18_fill_33 rfl 1 rfl ?_
        refine s_inst o (is_X21 o) (lw_all_tbl q2416) dX18_fill_34 (fun v4 hv4 => ?_)
        refine s_if_eq (tgt := 60) o dX18_fill_37 (by decide) (rZ hv4) ?_ ?_
        · exact sc_X18_fill_60 o l0 l1 l2 hl2
        · refine s_aload_n o dX18_fill_40 rfl 1 rfl ?_
          refine s_cast o (cs_X21 o) (lw_all_tbl q2416) dX18_fill_41 ?_
          refine s_cvC (d := d + 205) (As := []) (st := []) (c := 21) o (sc_X21_isLess (mg Γ) (d + 201) ts l1) mw_X21_isLess rfl (Or.inl (lw_all_tbl q2417)) rfl (lw_all_tbl q1871) (lw_all_tbl q1870) wt_0 rfl dX18_fill_44 rfl (rs := fun r => [vI r]) (fun _ => rfl) (fun v5 hv5 => ?_)
          refine s_if_eq (tgt := 60) o dX18_fill_47 (by decide) (rZ (hv5 _ rfl)) ?_ ?_
          · exact sc_X18_fill_60 o l0 l1 l2 hl2
          · refine s_aload_n o dX18_fill_50 rfl 1 rfl ?_
            refine s_cast o (cs_X21 o) (lw_all_tbl q2416) dX18_fill_51 ?_
            refine s_aload_n o dX18_fill_54 rfl 0 rfl ?_
            refine s_lload_n o dX18_fill_55 rfl 2 rfl ?_
            refine s_cvC (d := d + 205) (As := [vA (mg Γ) l0, vJ l2]) (st := []) (c := 21) o (sc_X21_fill (mg Γ) d ts l1 l0 l2 hl2) mw_X21_fill rfl (Or.inl (lw_all_tbl q2425)) rfl (lw_all_tbl q2276) (lw_all_tbl q2275) wt_0 rfl dX18_fill_56 rfl (rs := fun r => [vI r]) (fun _ => rfl) (fun v6 hv6 => ?_)
            exact s_iret o rfl i_boolean (hv6 _ rfl) dX18_fill_59 (fun _ hh => hh)
      · refine s_aload_n o dX18_fill_23 rfl 1 rfl ?_
        refine s_cast o (cs_X25 o) (lw_all_tbl q2414) dX18_fill_24 ?_
        refine s_aload_n o dX18_fill_27 rfl 0 rfl ?_
        refine s_lload_n o dX18_fill_28 rfl 2 rfl ?_
        refine s_cvC (d := d + 205) (As := [vA (mg Γ) l0, vJ l2]) (st := []) (c := 25) o (sc_X25_fill (mg Γ) d ts l1 l0 l2 hl2) mw_X25_fill rfl (Or.inl (lw_all_tbl q2424)) rfl (lw_all_tbl q2306) (lw_all_tbl q2305) wt_0 rfl dX18_fill_29 rfl (rs := fun r => [vI r]) (fun _ => rfl) (fun v7 hv7 => ?_)
        exact s_iret o rfl i_boolean (hv7 _ rfl) dX18_fill_32 (fun _ hh => hh)
    · refine s_iconst o dX18_fill_14 ?_
      exact s_iret o rfl i_boolean (Or.inr rfl) dX18_fill_15 (fun _ hh => hh)
theorem dX18_step_0 : decode cX18_step 0 = .ok (.iload_n 2, 1) := by decide +kernel
theorem dX18_step_1 : decode cX18_step 1 = .ok (.iconst 1, 1) := by decide +kernel
theorem dX18_step_2 : decode cX18_step 2 = .ok (.if_icmp .ne 29, 3) := by decide +kernel
theorem dX18_step_5 : decode cX18_step 5 = .ok (.aload_n 1, 1) := by decide +kernel
theorem dX18_step_6 : decode cX18_step 6 = .ok (.aload_n 0, 1) := by decide +kernel
theorem dX18_step_7 : decode cX18_step 7 = .ok (.getfield 7, 3) := by decide +kernel
theorem dX18_step_10 : decode cX18_step 10 = .ok (.iconst 0, 1) := by decide +kernel
theorem dX18_step_11 : decode cX18_step 11 = .ok (.aaload, 1) := by decide +kernel
theorem dX18_step_12 : decode cX18_step 12 = .ok (.getfield 25, 3) := by decide +kernel
theorem dX18_step_15 : decode cX18_step 15 = .ok (.aload_n 1, 1) := by decide +kernel
theorem dX18_step_16 : decode cX18_step 16 = .ok (.invokevirtual 82, 3) := by decide +kernel
theorem dX18_step_19 : decode cX18_step 19 = .ok (.invokevirtual 86, 3) := by decide +kernel
theorem dX18_step_22 : decode cX18_step 22 = .ok (.aload_n 1, 1) := by decide +kernel
theorem dX18_step_23 : decode cX18_step 23 = .ok (.aload_n 0, 1) := by decide +kernel
theorem dX18_step_24 : decode cX18_step 24 = .ok (.getfield 17, 3) := by decide +kernel
theorem dX18_step_27 : decode cX18_step 27 = .ok (.invokevirtual 90, 3) := by decide +kernel
theorem dX18_step_30 : decode cX18_step 30 = .ok (.return_, 1) := by decide +kernel
theorem dX18_step_31 : decode cX18_step 31 = .ok (.aload_n 1, 1) := by decide +kernel
theorem dX18_step_32 : decode cX18_step 32 = .ok (.getfield 93, 3) := by decide +kernel
theorem dX18_step_35 : decode cX18_step 35 = .ok (.ifCond .eq 37, 3) := by decide +kernel
theorem dX18_step_38 : decode cX18_step 38 = .ok (.aload_n 0, 1) := by decide +kernel
theorem dX18_step_39 : decode cX18_step 39 = .ok (.getfield 97, 3) := by decide +kernel
theorem dX18_step_42 : decode cX18_step 42 = .ok (.ifCond .eq 30, 3) := by decide +kernel
theorem dX18_step_45 : decode cX18_step 45 = .ok (.aload_n 1, 1) := by decide +kernel
theorem dX18_step_46 : decode cX18_step 46 = .ok (.dup, 1) := by decide +kernel
theorem dX18_step_47 : decode cX18_step 47 = .ok (.getfield 100, 3) := by decide +kernel
theorem dX18_step_50 : decode cX18_step 50 = .ok (.iconst 1, 1) := by decide +kernel
theorem dX18_step_51 : decode cX18_step 51 = .ok (.iadd, 1) := by decide +kernel
theorem dX18_step_52 : decode cX18_step 52 = .ok (.putfield 100, 3) := by decide +kernel
theorem dX18_step_55 : decode cX18_step 55 = .ok (.aload_n 1, 1) := by decide +kernel
theorem dX18_step_56 : decode cX18_step 56 = .ok (.aload_n 0, 1) := by decide +kernel
theorem dX18_step_57 : decode cX18_step 57 = .ok (.iconst 1, 1) := by decide +kernel
theorem dX18_step_58 : decode cX18_step 58 = .ok (.invokevirtual 103, 3) := by decide +kernel
theorem dX18_step_61 : decode cX18_step 61 = .ok (.aload_n 1, 1) := by decide +kernel
theorem dX18_step_62 : decode cX18_step 62 = .ok (.aload_n 0, 1) := by decide +kernel
theorem dX18_step_63 : decode cX18_step 63 = .ok (.getfield 13, 3) := by decide +kernel
theorem dX18_step_66 : decode cX18_step 66 = .ok (.iconst 0, 1) := by decide +kernel
theorem dX18_step_67 : decode cX18_step 67 = .ok (.aaload, 1) := by decide +kernel
theorem dX18_step_68 : decode cX18_step 68 = .ok (.invokevirtual 90, 3) := by decide +kernel
theorem dX18_step_71 : decode cX18_step 71 = .ok (.return_, 1) := by decide +kernel
theorem dX18_step_72 : decode cX18_step 72 = .ok (.iconst 0, 1) := by decide +kernel
theorem dX18_step_73 : decode cX18_step 73 = .ok (.istore_n 3, 1) := by decide +kernel
theorem dX18_step_74 : decode cX18_step 74 = .ok (.iload_n 3, 1) := by decide +kernel
theorem dX18_step_75 : decode cX18_step 75 = .ok (.aload_n 0, 1) := by decide +kernel
theorem dX18_step_76 : decode cX18_step 76 = .ok (.getfield 7, 3) := by decide +kernel
theorem dX18_step_79 : decode cX18_step 79 = .ok (.arraylength, 1) := by decide +kernel
theorem dX18_step_80 : decode cX18_step 80 = .ok (.if_icmp .ge 44, 3) := by decide +kernel
theorem dX18_step_83 : decode cX18_step 83 = .ok (.aload_n 1, 1) := by decide +kernel
theorem dX18_step_84 : decode cX18_step 84 = .ok (.aload_n 0, 1) := by decide +kernel
theorem dX18_step_85 : decode cX18_step 85 = .ok (.getfield 13, 3) := by decide +kernel
theorem dX18_step_88 : decode cX18_step 88 = .ok (.iload_n 3, 1) := by decide +kernel
theorem dX18_step_89 : decode cX18_step 89 = .ok (.aaload, 1) := by decide +kernel
theorem dX18_step_90 : decode cX18_step 90 = .ok (.invokestatic 107, 3) := by decide +kernel
theorem dX18_step_93 : decode cX18_step 93 = .ok (.lstore 4, 2) := by decide +kernel
theorem dX18_step_95 : decode cX18_step 95 = .ok (.lload 4, 2) := by decide +kernel
theorem dX18_step_97 : decode cX18_step 97 = .ok (.lconst 0, 1) := by decide +kernel
theorem dX18_step_98 : decode cX18_step 98 = .ok (.lcmp, 1) := by decide +kernel
theorem dX18_step_99 : decode cX18_step 99 = .ok (.ifCond .ge 4, 3) := by decide +kernel
theorem dX18_step_102 : decode cX18_step 102 = .ok (.return_, 1) := by decide +kernel
theorem dX18_step_103 : decode cX18_step 103 = .ok (.aload_n 1, 1) := by decide +kernel
theorem dX18_step_104 : decode cX18_step 104 = .ok (.aload_n 0, 1) := by decide +kernel
theorem dX18_step_105 : decode cX18_step 105 = .ok (.getfield 7, 3) := by decide +kernel
theorem dX18_step_108 : decode cX18_step 108 = .ok (.iload_n 3, 1) := by decide +kernel
theorem dX18_step_109 : decode cX18_step 109 = .ok (.aaload, 1) := by decide +kernel
theorem dX18_step_110 : decode cX18_step 110 = .ok (.getfield 25, 3) := by decide +kernel
theorem dX18_step_113 : decode cX18_step 113 = .ok (.lload 4, 2) := by decide +kernel
theorem dX18_step_115 : decode cX18_step 115 = .ok (.invokevirtual 86, 3) := by decide +kernel
theorem dX18_step_118 : decode cX18_step 118 = .ok (.iinc 3 1, 3) := by decide +kernel
theorem dX18_step_121 : decode cX18_step 121 = .ok (.goto (-47), 3) := by decide +kernel
theorem dX18_step_124 : decode cX18_step 124 = .ok (.iconst 0, 1) := by decide +kernel
theorem dX18_step_125 : decode cX18_step 125 = .ok (.istore_n 3, 1) := by decide +kernel
theorem dX18_step_126 : decode cX18_step 126 = .ok (.iload_n 3, 1) := by decide +kernel
theorem dX18_step_127 : decode cX18_step 127 = .ok (.aload_n 0, 1) := by decide +kernel
theorem dX18_step_128 : decode cX18_step 128 = .ok (.getfield 7, 3) := by decide +kernel
theorem dX18_step_131 : decode cX18_step 131 = .ok (.arraylength, 1) := by decide +kernel
theorem dX18_step_132 : decode cX18_step 132 = .ok (.if_icmp .ge 36, 3) := by decide +kernel
theorem dX18_step_135 : decode cX18_step 135 = .ok (.aload_n 1, 1) := by decide +kernel
theorem dX18_step_136 : decode cX18_step 136 = .ok (.aload_n 0, 1) := by decide +kernel
theorem dX18_step_137 : decode cX18_step 137 = .ok (.getfield 13, 3) := by decide +kernel
theorem dX18_step_140 : decode cX18_step 140 = .ok (.iload_n 3, 1) := by decide +kernel
theorem dX18_step_141 : decode cX18_step 141 = .ok (.aaload, 1) := by decide +kernel
theorem dX18_step_142 : decode cX18_step 142 = .ok (.aload_n 1, 1) := by decide +kernel
theorem dX18_step_143 : decode cX18_step 143 = .ok (.aload_n 0, 1) := by decide +kernel
theorem dX18_step_144 : decode cX18_step 144 = .ok (.getfield 7, 3) := by decide +kernel
theorem dX18_step_147 : decode cX18_step 147 = .ok (.iload_n 3, 1) := by decide +kernel
theorem dX18_step_148 : decode cX18_step 148 = .ok (.aaload, 1) := by decide +kernel
theorem dX18_step_149 : decode cX18_step 149 = .ok (.getfield 25, 3) := by decide +kernel
theorem dX18_step_152 : decode cX18_step 152 = .ok (.invokevirtual 110, 3) := by decide +kernel
theorem dX18_step_155 : decode cX18_step 155 = .ok (.invokestatic 114, 3) := by decide +kernel
theorem dX18_step_158 : decode cX18_step 158 = .ok (.ifCond .ne 4, 3) := by decide +kernel
theorem dX18_step_161 : decode cX18_step 161 = .ok (.return_, 1) := by decide +kernel
theorem dX18_step_162 : decode cX18_step 162 = .ok (.iinc 3 1, 3) := by decide +kernel
theorem dX18_step_165 : decode cX18_step 165 = .ok (.goto (-39), 3) := by decide +kernel
theorem dX18_step_168 : decode cX18_step 168 = .ok (.aload_n 1, 1) := by decide +kernel
theorem dX18_step_169 : decode cX18_step 169 = .ok (.aload_n 0, 1) := by decide +kernel
theorem dX18_step_170 : decode cX18_step 170 = .ok (.getfield 17, 3) := by decide +kernel
theorem dX18_step_173 : decode cX18_step 173 = .ok (.invokevirtual 90, 3) := by decide +kernel
theorem dX18_step_176 : decode cX18_step 176 = .ok (.return_, 1) := by decide +kernel
theorem mw_X18_step : MW yX18_step (Cond.code yX18_step cX18_step 6 (Option.none : Option Jvm.ClassFile.FieldType)) cX18_step 6 (Option.none : Option Jvm.ClassFile.FieldType) 2 := ⟨rfl, ⟨(lw_all_tbl q2403), rfl, (lw_all_tbl q198)⟩, rfl, ⟨by decide, by decide⟩, by decide +kernel⟩
abbrev okc_X18_step_126 (x : Int × Int × Int) : Prop := R32 x.2.2
abbrev lvc_X18_step_126 (Γ : Gm) (x : Int × Int × Int) : List (Nat × Value) := [(0, vA (mg Γ) x.1), (1, vA (mg Γ) x.2.1), (3, vI x.2.2)]
noncomputable def c_X18_step_126b {A : Type} (k_161 : Mo CH A) (k_168 : Int → Int → Mo CH A) (l0 : Int) (l1 : Int) (l3 : Int) : Mo CH ((Int × Int × Int) ⊕ A) :=
  bnd (gf [118] 5 l0) fun v1 =>
  bnd (aln v1) fun v2 =>
  if v2 ≤ l3 then
    lo (k_168 l0 l1)
  else
    bnd (gf [118] 6 l0) fun v3 =>
    bnd (ald 5 v3 l3) fun v4 =>
    bnd (gf [118] 5 l0) fun v5 =>
    bnd (ald 7 v5 l3) fun v6 =>
    bnd (gf [117] 1 v6) fun v7 =>
    bnd (isk 103 l1) fun _ =>
    bnd (c_X3_local l1 v7) fun v8 =>
    bnd (c_X18_fill l1 v4 v8) fun v9 =>
    if ¬ v9 = 0 then
      pr (.inl (l0, l1, (w32 (l3 + 1))))
    else
      lo k_161
theorem sc_X18_step_126b {Γ : Gm} {ts : TS} {d : Nat} (o : Ok Γ "LazyForge$Let" cX18_step 6 (Option.none : Option Jvm.ClassFile.FieldType) (d + 207)) {A : Type} {K : A → CH → Prop} (k_161 : Mo CH A) (k_168 : Int → Int → Mo CH A) (hk_161 : Sx Γ (fun h => (h, ts)) K 161 [] [] (k_161)) (hk_168 : ∀ (l0 : Int) (l1 : Int), Sx Γ (fun h => (h, ts)) K 168 [(0, vA (mg Γ) l0), (1, vA (mg Γ) l1)] [] (k_168 l0 l1)) (l0 : Int) (l1 : Int) (l3 : Int) (hl3 : R32 l3) : Sx Γ (fun h => (h, ts)) (KL Γ (fun h => (h, ts)) okc_X18_step_126 K 126 (lvc_X18_step_126 Γ) []) 126 [(0, vA (mg Γ) l0), (1, vA (mg Γ) l1), (3, vI l3)] [] (c_X18_step_126b k_161 k_168 l0 l1 l3) := by
  unfold c_X18_step_126b
  refine s_iload_n o dX18_step_126 rfl 2 rfl ?_
  refine s_aload_n o dX18_step_127 rfl 0 rfl ?_
  refine r_getf (vA (mg Γ)) rfl o cf_X18_names (Or.inl (lw_all_tbl q1335)) dX18_step_128 (fun v1 hv1 => ?_)
  refine s_alen o dX18_step_131 (fun v2 hv2 => ?_)
  refine s_icmp_ge (tgt := 168) o dX18_step_132 (by decide) hl3 (rN hv2) ?_ ?_
  · refine r_to [(0, vA (mg Γ) l0), (1, vA (mg Γ) l1)] [0, 1] rfl ?_
    exact s_lo (hk_168 l0 l1)
  · refine s_aload_n o dX18_step_135 rfl 1 rfl ?_
    refine s_aload_n o dX18_step_136 rfl 0 rfl ?_
    refine r_getf (vA (mg Γ)) rfl o cf_X18_bound (Or.inl (lw_all_tbl q1336)) dX18_step_137 (fun v3 hv3 => ?_)
    refine s_iload_n o dX18_step_140 rfl 2 rfl ?_
    refine r_aald (kd := 5) o (by decide) rfl hl3 dX18_step_141 (fun v4 => ?_)
    refine s_aload_n o dX18_step_142 rfl 1 rfl ?_
    refine s_aload_n o dX18_step_143 rfl 0 rfl ?_
    refine r_getf (vA (mg Γ)) rfl o cf_X18_names (Or.inl (lw_all_tbl q1335)) dX18_step_144 (fun v5 hv5 => ?_)
    refine s_iload_n o dX18_step_147 rfl 2 rfl ?_
    refine r_aald (kd := 7) o (by decide) rfl hl3 dX18_step_148 (fun v6 => ?_)
    refine r_getf vI rfl o cf_X17_number (Or.inr (Or.inl ⟨_, q1290⟩)) dX18_step_149 (fun v7 hv7 => ?_)
    refine s_cvC (d := d + 206) (As := [vI v7]) (st := [vA (mg Γ) v4, vA (mg Γ) l1]) (c := 3) o (sc_X3_local (mg Γ) (d + 206) ts l1 v7 hv7) mw_X3_local rfl (Or.inl (lw_all_tbl q2420)) rfl (lw_all_tbl q2267) (lw_all_tbl q2266) (wt_A (wt_A wt_0)) rfl dX18_step_152 rfl (rs := fun r => [vJ r, vA (mg Γ) v4, vA (mg Γ) l1]) (fun _ => rfl) (fun v8 hv8 => ?_)
    refine s_cs (d := d + 206) (As := [vA (mg Γ) l1, vA (mg Γ) v4, vJ v8]) (st := []) o (sc_X18_fill (mg Γ) d ts l1 v4 v8 (hv8 _ rfl)) mw_X18_fill rfl (Or.inl (lw_all_tbl q2421)) (lw_all_tbl q2422) wt_0 rfl dX18_step_155 rfl (rs := fun r => [vI r]) (fun _ => rfl) (fun v9 hv9 => ?_)
    refine s_if_ne (tgt := 162) o dX18_step_158 (by decide) (rZ (hv9 _ rfl)) ?_ ?_
    · refine r_iinc (j := 2) o dX18_step_162 rfl rfl [(0, vA (mg Γ) l0), (1, vA (mg Γ) l1)] [0, 1] rfl ⟨(Nat.ne_of_beq_eq_false rfl), (fun _ => (vA_cat (mg Γ) l0)), ⟨(Nat.ne_of_beq_eq_false rfl), (fun _ => (vA_cat (mg Γ) l1)), trivial⟩⟩ ?_
      refine s_goto (tgt := 126) o dX18_step_165 (by decide) ?_
      refine r_to [(0, vA (mg Γ) l0), (1, vA (mg Γ) l1), (3, vI (w32 (l3 + 1)))] [1, 2, 0] rfl ?_
      exact s_back (w32_R _) rfl
    · refine r_to [] [] rfl ?_
      exact s_lo hk_161
noncomputable def c_X18_step_126 {A : Type} (k_161 : Mo CH A) (k_168 : Int → Int → Mo CH A) (l0 : Int) (l1 : Int) (l3 : Int) : Mo CH A := Loop (fun x => c_X18_step_126b k_161 k_168 x.1 x.2.1 x.2.2) (l0, l1, l3)
theorem sc_X18_step_126 {Γ : Gm} {ts : TS} {d : Nat} (o : Ok Γ "LazyForge$Let" cX18_step 6 (Option.none : Option Jvm.ClassFile.FieldType) (d + 207)) {A : Type} {K : A → CH → Prop} (k_161 : Mo CH A) (k_168 : Int → Int → Mo CH A) (hk_161 : Sx Γ (fun h => (h, ts)) K 161 [] [] (k_161)) (hk_168 : ∀ (l0 : Int) (l1 : Int), Sx Γ (fun h => (h, ts)) K 168 [(0, vA (mg Γ) l0), (1, vA (mg Γ) l1)] [] (k_168 l0 l1)) (l0 : Int) (l1 : Int) (l3 : Int) (hl3 : R32 l3) : Sx Γ (fun h => (h, ts)) K 126 [(0, vA (mg Γ) l0), (1, vA (mg Γ) l1), (3, vI l3)] [] (c_X18_step_126 k_161 k_168 l0 l1 l3) :=
  s_loop okc_X18_step_126 (lvc_X18_step_126 Γ) (fun x hx => sc_X18_step_126b o k_161 k_168 hk_161 hk_168 x.1 x.2.1 x.2.2 hx) (x := (l0, l1, l3)) hl3
abbrev okc_X18_step_74 (x : Int × Int × Int) : Prop := R32 x.2.2
abbrev lvc_X18_step_74 (Γ : Gm) (x : Int × Int × Int) : List (Nat × Value) := [(0, vA (mg Γ) x.1), (1, vA (mg Γ) x.2.1), (3, vI x.2.2)]
noncomputable def c_X18_step_74b {A : Type} (k_102 : Mo CH A) (k_124 : Int → Int → Mo CH A) (l0 : Int) (l1 : Int) (l3 : Int) : Mo CH ((Int × Int × Int) ⊕ A) :=
  bnd (gf [118] 5 l0) fun v1 =>
  bnd (aln v1) fun v2 =>
  if v2 ≤ l3 then
    lo (k_124 l0 l1)
  else
    bnd (gf [118] 6 l0) fun v3 =>
    bnd (ald 5 v3 l3) fun v4 =>
    bnd (c_X18_begin l1 v4) fun v5 =>
    if 0 ≤ v5 then
      bnd (gf [118] 5 l0) fun v6 =>
      bnd (ald 7 v6 l3) fun v7 =>
      bnd (gf [117] 1 v7) fun v8 =>
      bnd (isk 103 l1) fun _ =>
      bnd (c_X3_set l1 v8 v5) fun _ =>
      pr (.inl (l0, l1, (w32 (l3 + 1))))
    else
      lo k_102
theorem sc_X18_step_74b {Γ : Gm} {ts : TS} {d : Nat} (o : Ok Γ "LazyForge$Let" cX18_step 6 (Option.none : Option Jvm.ClassFile.FieldType) (d + 207)) {A : Type} {K : A → CH → Prop} (k_102 : Mo CH A) (k_124 : Int → Int → Mo CH A) (hk_102 : Sx Γ (fun h => (h, ts)) K 102 [] [] (k_102)) (hk_124 : ∀ (l0 : Int) (l1 : Int), Sx Γ (fun h => (h, ts)) K 124 [(0, vA (mg Γ) l0), (1, vA (mg Γ) l1)] [] (k_124 l0 l1)) (l0 : Int) (l1 : Int) (l3 : Int) (hl3 : R32 l3) : Sx Γ (fun h => (h, ts)) (KL Γ (fun h => (h, ts)) okc_X18_step_74 K 74 (lvc_X18_step_74 Γ) []) 74 [(0, vA (mg Γ) l0), (1, vA (mg Γ) l1), (3, vI l3)] [] (c_X18_step_74b k_102 k_124 l0 l1 l3) := by
  unfold c_X18_step_74b
  refine s_iload_n o dX18_step_74 rfl 2 rfl ?_
  refine s_aload_n o dX18_step_75 rfl 0 rfl ?_
  refine r_getf (vA (mg Γ)) rfl o cf_X18_names (Or.inl (lw_all_tbl q1335)) dX18_step_76 (fun v1 hv1 => ?_)
  refine s_alen o dX18_step_79 (fun v2 hv2 => ?_)
  refine s_icmp_ge (tgt := 124) o dX18_step_80 (by decide) hl3 (rN hv2) ?_ ?_
  · refine r_to [(0, vA (mg Γ) l0), (1, vA (mg Γ) l1)] [0, 1] rfl ?_
    exact s_lo (hk_124 l0 l1)
  · refine s_aload_n o dX18_step_83 rfl 1 rfl ?_
    refine s_aload_n o dX18_step_84 rfl 0 rfl ?_
    refine r_getf (vA (mg Γ)) rfl o cf_X18_bound (Or.inl (lw_all_tbl q1336)) dX18_step_85 (fun v3 hv3 => ?_)
    refine s_iload_n o dX18_step_88 rfl 2 rfl ?_
    refine r_aald (kd := 5) o (by decide) rfl hl3 dX18_step_89 (fun v4 => ?_)
    refine s_cs (d := d + 206) (As := [vA (mg Γ) l1, vA (mg Γ) v4]) (st := []) o (sc_X18_begin (mg Γ) d ts l1 v4) mw_X18_begin rfl (Or.inl (lw_all_tbl q2408)) (lw_all_tbl q2409) wt_0 rfl dX18_step_90 rfl (rs := fun r => [vJ r]) (fun _ => rfl) (fun v5 hv5 => ?_)
    refine r_lstore o dX18_step_93 rfl ⟨(Nat.ne_of_beq_eq_false rfl), (Nat.ne_of_beq_eq_false rfl), (fun _ => (vA_cat (mg Γ) l0)), ⟨(Nat.ne_of_beq_eq_false rfl), (Nat.ne_of_beq_eq_false rfl), (fun _ => (vA_cat (mg Γ) l1)), ⟨(Nat.ne_of_beq_eq_false rfl), (Nat.ne_of_beq_eq_false rfl), (fun _ => rfl), trivial⟩⟩⟩ ?_
    refine s_lload o dX18_step_95 0 rfl ?_
    refine s_lconst (x := 0) o dX18_step_97 rfl ?_
    refine s_lcmp_ge (tgt := 103) o dX18_step_98 dX18_step_99 (by decide) (hv5 _ rfl) (r64 rfl) ?_ ?_
    · refine s_aload_n o dX18_step_103 rfl 2 rfl ?_
      refine s_aload_n o dX18_step_104 rfl 1 rfl ?_
      refine r_getf (vA (mg Γ)) rfl o cf_X18_names (Or.inl (lw_all_tbl q1335)) dX18_step_105 (fun v6 hv6 => ?_)
      refine s_iload_n o dX18_step_108 rfl 3 rfl ?_
      refine r_aald (kd := 7) o (by decide) rfl hl3 dX18_step_109 (fun v7 => ?_)
      refine r_getf vI rfl o cf_X17_number (Or.inr (Or.inl ⟨_, q1290⟩)) dX18_step_110 (fun v8 hv8 => ?_)
      refine s_lload o dX18_step_113 0 rfl ?_
      refine s_cvC (d := d + 206) (As := [vI v8, vJ v5]) (st := []) (c := 3) o (sc_X3_set (mg Γ) (d + 206) ts l1 v8 v5 hv8 (hv5 _ rfl)) mw_X3_set rfl (Or.inl (lw_all_tbl q2405)) rfl (lw_all_tbl q2206) (lw_all_tbl q2205) wt_0 rfl dX18_step_115 rfl (rs := fun _ => []) (fun _ => rfl) (fun _ _ => ?_)
      refine r_iinc (j := 3) o dX18_step_118 rfl rfl [(4, vJ v5), (0, vA (mg Γ) l0), (1, vA (mg Γ) l1)] [0, 1, 2] rfl ⟨(Nat.ne_of_beq_eq_false rfl), (fun e => absurd e (Nat.ne_of_beq_eq_false rfl)), ⟨(Nat.ne_of_beq_eq_false rfl), (fun _ => (vA_cat (mg Γ) l0)), ⟨(Nat.ne_of_beq_eq_false rfl), (fun _ => (vA_cat (mg Γ) l1)), trivial⟩⟩⟩ ?_
      refine s_goto (tgt := 74) o dX18_step_121 (by decide) ?_
      refine r_to [(0, vA (mg Γ) l0), (1, vA (mg Γ) l1), (3, vI (w32 (l3 + 1)))] [2, 3, 0] rfl ?_
      exact s_back (w32_R _) rfl
    · refine r_to [] [] rfl ?_
      exact s_lo hk_102
noncomputable def c_X18_step_74 {A : Type} (k_102 : Mo CH A) (k_124 : Int → Int → Mo CH A) (l0 : Int) (l1 : Int) (l3 : Int) : Mo CH A := Loop (fun x => c_X18_step_74b k_102 k_124 x.1 x.2.1 x.2.2) (l0, l1, l3)
theorem sc_X18_step_74 {Γ : Gm} {ts : TS} {d : Nat} (o : Ok Γ "LazyForge$Let" cX18_step 6 (Option.none : Option Jvm.ClassFile.FieldType) (d + 207)) {A : Type} {K : A → CH → Prop} (k_102 : Mo CH A) (k_124 : Int → Int → Mo CH A) (hk_102 : Sx Γ (fun h => (h, ts)) K 102 [] [] (k_102)) (hk_124 : ∀ (l0 : Int) (l1 : Int), Sx Γ (fun h => (h, ts)) K 124 [(0, vA (mg Γ) l0), (1, vA (mg Γ) l1)] [] (k_124 l0 l1)) (l0 : Int) (l1 : Int) (l3 : Int) (hl3 : R32 l3) : Sx Γ (fun h => (h, ts)) K 74 [(0, vA (mg Γ) l0), (1, vA (mg Γ) l1), (3, vI l3)] [] (c_X18_step_74 k_102 k_124 l0 l1 l3) :=
  s_loop okc_X18_step_74 (lvc_X18_step_74 Γ) (fun x hx => sc_X18_step_74b o k_102 k_124 hk_102 hk_124 x.1 x.2.1 x.2.2 hx) (x := (l0, l1, l3)) hl3
noncomputable def c_X18_step_72  (l0 : Int) (l1 : Int) : Mo CH Int :=
  c_X18_step_74
    (pr 0)
    (fun v1 v2 => c_X18_step_126
    (pr 0)
    (fun v3 v4 => bnd (gf [118] 7 v3) fun v5 =>
  bnd (isk 103 v4) fun _ =>
  bnd (c_X3_work v4 v5) fun _ =>
  pr 0) v1 v2 0) l0 l1 0
theorem sc_X18_step_72 {Γ : Gm} {ts : TS} {d : Nat} (o : Ok Γ "LazyForge$Let" cX18_step 6 (Option.none : Option Jvm.ClassFile.FieldType) (d + 207))   (l0 : Int) (l1 : Int) : Sx Γ (fun h => (h, ts)) (fun a s => mt Γ = (0, a, ((s, ts) : Wd))) 72 [(0, vA (mg Γ) l0), (1, vA (mg Γ) l1)] [] (c_X18_step_72 l0 l1) := by
  unfold c_X18_step_72
  refine s_iconst o dX18_step_72 ?_
  refine r_istore_n o dX18_step_73 rfl rfl ⟨(Nat.ne_of_beq_eq_false rfl), (fun _ => (vA_cat (mg Γ) l0)), ⟨(Nat.ne_of_beq_eq_false rfl), (fun _ => (vA_cat (mg Γ) l1)), trivial⟩⟩ ?_
  refine r_to [(0, vA (mg Γ) l0), (1, vA (mg Γ) l1), (3, vI 0)] [1, 2, 0] rfl ?_
  refine sc_X18_step_74 o _ _ ?_ ?_ l0 l1 0 (r32 rfl)
  · exact s_vret o rfl dX18_step_102 (fun _ hh => hh)
  · intro v1 v2
    refine s_iconst o dX18_step_124 ?_
    refine r_istore_n o dX18_step_125 rfl rfl ⟨(Nat.ne_of_beq_eq_false rfl), (fun _ => (vA_cat (mg Γ) v1)), ⟨(Nat.ne_of_beq_eq_false rfl), (fun _ => (vA_cat (mg Γ) v2)), trivial⟩⟩ ?_
    refine r_to [(0, vA (mg Γ) v1), (1, vA (mg Γ) v2), (3, vI 0)] [1, 2, 0] rfl ?_
    refine sc_X18_step_126 o _ _ ?_ ?_ v1 v2 0 (r32 rfl)
    · exact s_vret o rfl dX18_step_161 (fun _ hh => hh)
    · intro v3 v4
      refine s_aload_n o dX18_step_168 rfl 1 rfl ?_
      refine s_aload_n o dX18_step_169 rfl 0 rfl ?_
      refine r_getf (vA (mg Γ)) rfl o cf_X18_body (Or.inl (lw_all_tbl q1337)) dX18_step_170 (fun v5 hv5 => ?_)
      refine s_cvC (d := d + 206) (As := [vA (mg Γ) v5]) (st := []) (c := 3) o (sc_X3_work (mg Γ) (d + 204) ts v4 v5) mw_X3_work rfl (Or.inl (lw_all_tbl q2406)) rfl (lw_all_tbl q2210) (lw_all_tbl q2209) wt_0 rfl dX18_step_173 rfl (rs := fun _ => []) (fun _ => rfl) (fun _ _ => ?_)
      exact s_vret o rfl dX18_step_176 (fun _ hh => hh)
noncomputable def c_X18_step (l0 : Int) (l1 : Int) (l2 : Int) : Mo CH Int :=
  if ¬ l2 = 1 then
    bnd (gf [103] 17 l1) fun v1 =>
    if v1 = 0 then
      c_X18_step_72 l0 l1
    else
      bnd (gf [118] 8 l0) fun v2 =>
      if v2 = 0 then
        c_X18_step_72 l0 l1
      else
        bnd (gf [103] 30 l1) fun v3 =>
        bnd (pf [103] 30 l1 (w32 (v3 + 1))) fun _ =>
        bnd (isk 103 l1) fun _ =>
        bnd (c_X3_again l1 l0 1) fun _ =>
        bnd (gf [118] 6 l0) fun v4 =>
        bnd (ald 5 v4 0) fun v5 =>
        bnd (isk 103 l1) fun _ =>
        bnd (c_X3_work l1 v5) fun _ =>
        pr 0
  else
    bnd (gf [118] 5 l0) fun v6 =>
    bnd (ald 7 v6 0) fun v7 =>
    bnd (gf [117] 1 v7) fun v8 =>
    bnd (isk 103 l1) fun _ =>
    bnd (c_X3_taken l1) fun v9 =>
    bnd (isk 103 l1) fun _ =>
    bnd (c_X3_set l1 v8 v9) fun _ =>
    bnd (gf [118] 7 l0) fun v10 =>
    bnd (isk 103 l1) fun _ =>
    bnd (c_X3_work l1 v10) fun _ =>
    pr 0
theorem sc_X18_step (g : gC) (d : Nat) (ts : TS) (l0 : Int) (l1 : Int) (l2 : Int) (hl2 : R32 l2) : SF g yX18_step (Cond.code yX18_step cX18_step 6 (Option.none : Option Jvm.ClassFile.FieldType)) (Option.none : Option Jvm.ClassFile.FieldType) (d + 207) [vA g l0, vA g l1, vI l2] (fun h => (h, ts)) (c_X18_step l0 l1 l2) := by
  refine SF.of (lv := [(0, vA g l0), (1, vA g l1), (2, vI l2)]) (by decide) (wt_A (wt_A (wt_I wt_0))) rfl (by simp only [la_A, la_I, la_J, la_0]) (fun Γ hg hnm o => ?_)
  subst hg
  have o : Ok Γ "LazyForge$Let" cX18_step 6 (Option.none : Option Jvm.ClassFile.FieldType) (d + 207) := o
  unfold c_X18_step
  refine s_iload_n o dX18_step_0 rfl 2 rfl ?_
  refine s_iconst o dX18_step_1 ?_
  refine s_icmp_ne (tgt := 31) o dX18_step_2 (by decide) hl2 (r32 rfl) ?_ ?_
  · refine s_aload_n o dX18_step_31 rfl 1 rfl ?_
    refine r_getf vI rfl o cf_X3_isEager (Or.inr (Or.inl ⟨_, q346⟩)) dX18_step_32 (fun v1 hv1 => ?_)
    refine s_if_eq (tgt := 72) o dX18_step_35 (by decide) (rZ hv1) ?_ ?_
    · refine r_to [(0, vA (mg Γ) l0), (1, vA (mg Γ) l1)] [0, 1] rfl ?_
      exact sc_X18_step_72 o l0 l1
    · refine s_aload_n o dX18_step_38 rfl 0 rfl ?_
      refine r_getf vI rfl o cf_X18_needed (Or.inl (lw_all_tbl q1338)) dX18_step_39 (fun v2 hv2 => ?_)
      refine s_if_eq (tgt := 72) o dX18_step_42 (by decide) (rZ hv2) ?_ ?_
      · refine r_to [(0, vA (mg Γ) l0), (1, vA (mg Γ) l1)] [0, 1] rfl ?_
        exact sc_X18_step_72 o l0 l1
      · refine s_aload_n o dX18_step_45 rfl 1 rfl ?_
        refine s_dup o dX18_step_46 (vA_cat (mg Γ) l1) ?_
        refine r_getf vI rfl o cf_X3_atOnce (Or.inr (Or.inl ⟨_, q371⟩)) dX18_step_47 (fun v3 hv3 => ?_)
        refine s_iconst o dX18_step_50 ?_
        refine s_iadd o dX18_step_51 ?_
        refine r_putf vI rfl o cf_X3_atOnce (Or.inr (Or.inl ⟨_, q371⟩)) dX18_step_52 (Or.inl rfl) (w32_R _) ty_int ?_
        refine s_aload_n o dX18_step_55 rfl 1 rfl ?_
        refine s_aload_n o dX18_step_56 rfl 0 rfl ?_
        refine s_iconst o dX18_step_57 ?_
        refine s_cvC (d := d + 206) (As := [vA (mg Γ) l0, vI 1]) (st := []) (c := 3) o (sc_X3_again (mg Γ) (d + 205) ts l1 l0 1 (r32 rfl)) mw_X3_again rfl (Or.inl (lw_all_tbl q2407)) rfl (lw_all_tbl q2176) (lw_all_tbl q2175) wt_0 rfl dX18_step_58 rfl (rs := fun _ => []) (fun _ => rfl) (fun _ _ => ?_)
        refine s_aload_n o dX18_step_61 rfl 1 rfl ?_
        refine s_aload_n o dX18_step_62 rfl 0 rfl ?_
        refine r_getf (vA (mg Γ)) rfl o cf_X18_bound (Or.inl (lw_all_tbl q1336)) dX18_step_63 (fun v4 hv4 => ?_)
        refine s_iconst o dX18_step_66 ?_
        refine r_aald (kd := 5) o (by decide) rfl (r32 rfl) dX18_step_67 (fun v5 => ?_)
        refine s_cvC (d := d + 206) (As := [vA (mg Γ) v5]) (st := []) (c := 3) o (sc_X3_work (mg Γ) (d + 204) ts l1 v5) mw_X3_work rfl (Or.inl (lw_all_tbl q2406)) rfl (lw_all_tbl q2210) (lw_all_tbl q2209) wt_0 rfl dX18_step_68 rfl (rs := fun _ => []) (fun _ => rfl) (fun _ _ => ?_)
        exact s_vret o rfl dX18_step_71 (fun _ hh => hh)
  · refine s_aload_n o dX18_step_5 rfl 1 rfl ?_
    refine s_aload_n o dX18_step_6 rfl 0 rfl ?_
    refine r_getf (vA (mg Γ)) rfl o cf_X18_names (Or.inl (lw_all_tbl q1335)) dX18_step_7 (fun v6 hv6 => ?_)
    refine s_iconst o dX18_step_10 ?_
    refine r_aald (kd := 7) o (by decide) rfl (r32 rfl) dX18_step_11 (fun v7 => ?_)
    refine r_getf vI rfl o cf_X17_number (Or.inr (Or.inl ⟨_, q1290⟩)) dX18_step_12 (fun v8 hv8 => ?_)
    refine s_aload_n o dX18_step_15 rfl 1 rfl ?_
    refine s_cvC (d := d + 206) (As := []) (st := [vI v8, vA (mg Γ) l1]) (c := 3) o (sc_X3_taken (mg Γ) (d + 206) ts l1) mw_X3_taken rfl (Or.inl (lw_all_tbl q2404)) rfl (lw_all_tbl q2224) (lw_all_tbl q2223) (wt_I (wt_A wt_0)) rfl dX18_step_16 rfl (rs := fun r => [vJ r, vI v8, vA (mg Γ) l1]) (fun _ => rfl) (fun v9 hv9 => ?_)
    refine s_cvC (d := d + 206) (As := [vI v8, vJ v9]) (st := []) (c := 3) o (sc_X3_set (mg Γ) (d + 206) ts l1 v8 v9 hv8 (hv9 _ rfl)) mw_X3_set rfl (Or.inl (lw_all_tbl q2405)) rfl (lw_all_tbl q2206) (lw_all_tbl q2205) wt_0 rfl dX18_step_19 rfl (rs := fun _ => []) (fun _ => rfl) (fun _ _ => ?_)
    refine s_aload_n o dX18_step_22 rfl 1 rfl ?_
    refine s_aload_n o dX18_step_23 rfl 0 rfl ?_
    refine r_getf (vA (mg Γ)) rfl o cf_X18_body (Or.inl (lw_all_tbl q1337)) dX18_step_24 (fun v10 hv10 => ?_)
    refine s_cvC (d := d + 206) (As := [vA (mg Γ) v10]) (st := []) (c := 3) o (sc_X3_work (mg Γ) (d + 204) ts l1 v10) mw_X3_work rfl (Or.inl (lw_all_tbl q2406)) rfl (lw_all_tbl q2210) (lw_all_tbl q2209) wt_0 rfl dX18_step_27 rfl (rs := fun _ => []) (fun _ => rfl) (fun _ _ => ?_)
    exact s_vret o rfl dX18_step_30 (fun _ hh => hh)
theorem dX19_step_0 : decode cX19_step 0 = .ok (.aload_n 0, 1) := by decide +kernel
theorem dX19_step_1 : decode cX19_step 1 = .ok (.invokevirtual 21, 3) := by decide +kernel
theorem dX19_step_4 : decode cX19_step 4 = .ok (.ifCond .eq 18, 3) := by decide +kernel
theorem dX19_step_7 : decode cX19_step 7 = .ok (.aload_n 1, 1) := by decide +kernel
theorem dX19_step_8 : decode cX19_step 8 = .ok (.aload_n 1, 1) := by decide +kernel
theorem dX19_step_9 : decode cX19_step 9 = .ok (.aload_n 0, 1) := by decide +kernel
theorem dX19_step_10 : decode cX19_step 10 = .ok (.getfield 9, 3) := by decide +kernel
theorem dX19_step_13 : decode cX19_step 13 = .ok (.invokevirtual 29, 3) := by decide +kernel
theorem dX19_step_16 : decode cX19_step 16 = .ok (.invokevirtual 41, 3) := by decide +kernel
theorem dX19_step_19 : decode cX19_step 19 = .ok (.goto 19, 3) := by decide +kernel
theorem dX19_step_22 : decode cX19_step 22 = .ok (.aload_n 1, 1) := by decide +kernel
theorem dX19_step_23 : decode cX19_step 23 = .ok (.ldc2_w 35, 3) := by decide +kernel
theorem dX19_step_26 : decode cX19_step 26 = .ok (.aload_n 0, 1) := by decide +kernel
theorem dX19_step_27 : decode cX19_step 27 = .ok (.getfield 9, 3) := by decide +kernel
theorem dX19_step_30 : decode cX19_step 30 = .ok (.getfield 37, 3) := by decide +kernel
theorem dX19_step_33 : decode cX19_step 33 = .ok (.i2l, 1) := by decide +kernel
theorem dX19_step_34 : decode cX19_step 34 = .ok (.lor, 1) := by decide +kernel
theorem dX19_step_35 : decode cX19_step 35 = .ok (.invokevirtual 45, 3) := by decide +kernel
theorem dX19_step_38 : decode cX19_step 38 = .ok (.return_, 1) := by decide +kernel
theorem mw_X19_step : MW yX19_step (Cond.code yX19_step cX19_step 3 (Option.none : Option Jvm.ClassFile.FieldType)) cX19_step 3 (Option.none : Option Jvm.ClassFile.FieldType) 2 := ⟨rfl, ⟨(lw_all_tbl q2438), rfl, (lw_all_tbl q199)⟩, rfl, ⟨by decide, by decide⟩, by decide +kernel⟩
noncomputable def c_X19_step (l0 : Int) (l1 : Int) (l2 : Int) : Mo CH Int :=
  bnd (isk 119 l0) fun _ =>
  bnd (c_X19_isWhole l0) fun v1 =>
  if v1 = 0 then
    bnd (gf [119] 5 l0) fun v2 =>
    bnd (gf [116] 0 v2) fun v3 =>
    bnd (isk 103 l1) fun _ =>
    bnd (c_X3_give l1 (lor 8589934592 v3)) fun _ =>
    pr 0
  else
    bnd (gf [119] 5 l0) fun v4 =>
    bnd (isk 103 l1) fun _ =>
    bnd (c_X3_whole l1 v4) fun v5 =>
    bnd (isk 103 l1) fun _ =>
    bnd (c_X3_enter l1 v5) fun _ =>
    pr 0
theorem sc_X19_step (g : gC) (d : Nat) (ts : TS) (l0 : Int) (l1 : Int) (l2 : Int) (hl2 : R32 l2) : SF g yX19_step (Cond.code yX19_step cX19_step 3 (Option.none : Option Jvm.ClassFile.FieldType)) (Option.none : Option Jvm.ClassFile.FieldType) (d + 5) [vA g l0, vA g l1, vI l2] (fun h => (h, ts)) (c_X19_step l0 l1 l2) := by
  refine SF.of (lv := [(0, vA g l0), (1, vA g l1), (2, vI l2)]) (by decide) (wt_A (wt_A (wt_I wt_0))) rfl (by simp only [la_A, la_I, la_J, la_0]) (fun Γ hg hnm o => ?_)
  subst hg
  have o : Ok Γ "LazyForge$Named" cX19_step 3 (Option.none : Option Jvm.ClassFile.FieldType) (d + 5) := o
  unfold c_X19_step
  refine s_aload_n o dX19_step_0 rfl 0 rfl ?_
  refine s_cvC (d := d + 4) (As := []) (st := []) (c := 19) o (sc_X19_isWhole (mg Γ) (d + 2) ts l0) mw_X19_isWhole rfl (Or.inl (lw_all_tbl q1718)) rfl (lw_all_tbl q1720) (lw_all_tbl q1719) wt_0 rfl dX19_step_1 rfl (rs := fun r => [vI r]) (fun _ => rfl) (fun v1 hv1 => ?_)
  refine s_if_eq (tgt := 22) o dX19_step_4 (by decide) (rZ (hv1 _ rfl)) ?_ ?_
  · refine s_aload_n o dX19_step_22 rfl 1 rfl ?_
    refine s_ldc2 (n := 8589934592) o dX19_step_23 (lw_all_tbl q2316) rfl ?_
    refine s_aload_n o dX19_step_26 rfl 0 rfl ?_
    refine r_getf (vA (mg Γ)) rfl o cf_X19_function (Or.inl (lw_all_tbl q1367)) dX19_step_27 (fun v2 hv2 => ?_)
    refine r_getf vI rfl o cf_X16_number (Or.inr (Or.inl ⟨_, q1145⟩)) dX19_step_30 (fun v3 hv3 => ?_)
    refine s_i2l o dX19_step_33 hv3 ?_
    refine s_lor o dX19_step_34 ?_
    refine s_cvC (d := d + 4) (As := [vJ (lor 8589934592 v3)]) (st := []) (c := 3) o (sc_X3_give (mg Γ) (d + 2) ts l1 (lor 8589934592 v3) (lor_R _ _)) mw_X3_give rfl (Or.inl (lw_all_tbl q2440)) rfl (lw_all_tbl q2188) (lw_all_tbl q2187) wt_0 rfl dX19_step_35 rfl (rs := fun _ => []) (fun _ => rfl) (fun _ _ => ?_)
    exact s_vret o rfl dX19_step_38 (fun _ hh => hh)
  · refine s_aload_n o dX19_step_7 rfl 1 rfl ?_
    refine s_aload_n o dX19_step_8 rfl 1 rfl ?_
    refine s_aload_n o dX19_step_9 rfl 0 rfl ?_
    refine r_getf (vA (mg Γ)) rfl o cf_X19_function (Or.inl (lw_all_tbl q1367)) dX19_step_10 (fun v4 hv4 => ?_)
    refine s_cvC (d := d + 4) (As := [vA (mg Γ) v4]) (st := [vA (mg Γ) l1]) (c := 3) o (sc_X3_whole (mg Γ) (d + 4) ts l1 v4) mw_X3_whole rfl (Or.inl (lw_all_tbl q2312)) rfl (lw_all_tbl q2314) (lw_all_tbl q2313) (wt_A wt_0) rfl dX19_step_13 rfl (rs := fun r => [vJ r, vA (mg Γ) l1]) (fun _ => rfl) (fun v5 hv5 => ?_)
    refine s_cvC (d := d + 4) (As := [vJ v5]) (st := []) (c := 3) o (sc_X3_enter (mg Γ) d ts l1 v5 (hv5 _ rfl)) mw_X3_enter rfl (Or.inl (lw_all_tbl q2439)) rfl (lw_all_tbl q2181) (lw_all_tbl q2180) wt_0 rfl dX19_step_16 rfl (rs := fun _ => []) (fun _ => rfl) (fun _ _ => ?_)
    refine s_goto (tgt := 38) o dX19_step_19 (by decide) ?_
    exact s_vret o rfl dX19_step_38 (fun _ hh => hh)
theorem dX20_step_0 : decode cX20_step 0 = .ok (.aload_n 1, 1) := by decide +kernel
theorem dX20_step_1 : decode cX20_step 1 = .ok (.aload_n 1, 1) := by decide +kernel
theorem dX20_step_2 : decode cX20_step 2 = .ok (.aload_n 0, 1) := by decide +kernel
theorem dX20_step_3 : decode cX20_step 3 = .ok (.getfield 23, 3) := by decide +kernel
theorem dX20_step_6 : decode cX20_step 6 = .ok (.invokevirtual 27, 3) := by decide +kernel
theorem dX20_step_9 : decode cX20_step 9 = .ok (.invokevirtual 33, 3) := by decide +kernel
theorem dX20_step_12 : decode cX20_step 12 = .ok (.return_, 1) := by decide +kernel
theorem mw_X20_step : MW yX20_step (Cond.code yX20_step cX20_step 3 (Option.none : Option Jvm.ClassFile.FieldType)) cX20_step 3 (Option.none : Option Jvm.ClassFile.FieldType) 2 := ⟨rfl, ⟨(lw_all_tbl q2464), rfl, (lw_all_tbl q200)⟩, rfl, ⟨by decide, by decide⟩, by decide +kernel⟩
noncomputable def c_X20_step (l0 : Int) (l1 : Int) (l2 : Int) : Mo CH Int :=
  bnd (gf [120] 7 l0) fun v1 =>
  bnd (isk 103 l1) fun _ =>
  bnd (c_X3_local l1 v1) fun v2 =>
  bnd (isk 103 l1) fun _ =>
  bnd (c_X3_enter l1 v2) fun _ =>
  pr 0
theorem sc_X20_step (g : gC) (d : Nat) (ts : TS) (l0 : Int) (l1 : Int) (l2 : Int) (hl2 : R32 l2) : SF g yX20_step (Cond.code yX20_step cX20_step 3 (Option.none : Option Jvm.ClassFile.FieldType)) (Option.none : Option Jvm.ClassFile.FieldType) (d + 5) [vA g l0, vA g l1, vI l2] (fun h => (h, ts)) (c_X20_step l0 l1 l2) := by
  refine SF.of (lv := [(0, vA g l0), (1, vA g l1), (2, vI l2)]) (by decide) (wt_A (wt_A (wt_I wt_0))) rfl (by simp only [la_A, la_I, la_J, la_0]) (fun Γ hg hnm o => ?_)
  subst hg
  have o : Ok Γ "LazyForge$Use" cX20_step 3 (Option.none : Option Jvm.ClassFile.FieldType) (d + 5) := o
  unfold c_X20_step
  refine s_aload_n o dX20_step_0 rfl 1 rfl ?_
  refine s_aload_n o dX20_step_1 rfl 1 rfl ?_
  refine s_aload_n o dX20_step_2 rfl 0 rfl ?_
  refine r_getf vI rfl o cf_X20_number0 (Or.inl (lw_all_tbl q1446)) dX20_step_3 (fun v1 hv1 => ?_)
  refine s_cvC (d := d + 4) (As := [vI v1]) (st := [vA (mg Γ) l1]) (c := 3) o (sc_X3_local (mg Γ) (d + 4) ts l1 v1 hv1) mw_X3_local rfl (Or.inl (lw_all_tbl q2322)) rfl (lw_all_tbl q2267) (lw_all_tbl q2266) (wt_A wt_0) rfl dX20_step_6 rfl (rs := fun r => [vJ r, vA (mg Γ) l1]) (fun _ => rfl) (fun v2 hv2 => ?_)
  refine s_cvC (d := d + 4) (As := [vJ v2]) (st := []) (c := 3) o (sc_X3_enter (mg Γ) d ts l1 v2 (hv2 _ rfl)) mw_X3_enter rfl (Or.inl (lw_all_tbl q2465)) rfl (lw_all_tbl q2181) (lw_all_tbl q2180) wt_0 rfl dX20_step_9 rfl (rs := fun _ => []) (fun _ => rfl) (fun _ _ => ?_)
  exact s_vret o rfl dX20_step_12 (fun _ hh => hh)
theorem dX16_needs_0 : decode cX16_needs 0 = .ok (.aload_n 0, 1) := by decide +kernel
theorem dX16_needs_1 : decode cX16_needs 1 = .ok (.getfield 44, 3) := by decide +kernel
theorem dX16_needs_4 : decode cX16_needs 4 = .ok (.iload_n 1, 1) := by decide +kernel
theorem dX16_needs_5 : decode cX16_needs 5 = .ok (.ishr, 1) := by decide +kernel
theorem dX16_needs_6 : decode cX16_needs 6 = .ok (.iconst 1, 1) := by decide +kernel
theorem dX16_needs_7 : decode cX16_needs 7 = .ok (.iand, 1) := by decide +kernel
theorem dX16_needs_8 : decode cX16_needs 8 = .ok (.iconst 1, 1) := by decide +kernel
theorem dX16_needs_9 : decode cX16_needs 9 = .ok (.if_icmp .ne 7, 3) := by decide +kernel
theorem dX16_needs_12 : decode cX16_needs 12 = .ok (.iconst 1, 1) := by decide +kernel
theorem dX16_needs_13 : decode cX16_needs 13 = .ok (.goto 4, 3) := by decide +kernel
theorem dX16_needs_16 : decode cX16_needs 16 = .ok (.iconst 0, 1) := by decide +kernel
theorem dX16_needs_17 : decode cX16_needs 17 = .ok (.ireturn, 1) := by decide +kernel
theorem mw_X16_needs : MW yX16_needs (Cond.code yX16_needs cX16_needs 2 (Option.some Jvm.ClassFile.FieldType.boolean)) cX16_needs 2 (Option.some Jvm.ClassFile.FieldType.boolean) 1 := ⟨rfl, ⟨(lw_all_tbl q2134), rfl, (lw_all_tbl q193)⟩, rfl, ⟨by decide, by decide⟩, by decide +kernel⟩
noncomputable def c_X16_needs (l0 : Int) (l1 : Int) : Mo CH Int :=
  bnd (gf [116] 9 l0) fun v1 =>
  if ¬ (iand (ishr v1 l1) 1) = 1 then
    pr 0
  else
    pr 1
theorem sc_X16_needs (g : gC) (d : Nat) (ts : TS) (l0 : Int) (l1 : Int) (hl1 : R32 l1) : SF g yX16_needs (Cond.code yX16_needs cX16_needs 2 (Option.some Jvm.ClassFile.FieldType.boolean)) (Option.some Jvm.ClassFile.FieldType.boolean) (d + 0) [vA g l0, vI l1] (fun h => (h, ts)) (c_X16_needs l0 l1) := by
  refine SF.of (lv := [(0, vA g l0), (1, vI l1)]) (by decide) (wt_A (wt_I wt_0)) rfl (by simp only [la_A, la_I, la_J, la_0]) (fun Γ hg hnm o => ?_)
  subst hg
  have o : Ok Γ "LazyForge$Function" cX16_needs 2 (Option.some Jvm.ClassFile.FieldType.boolean) (d + 0) := o
  unfold c_X16_needs
  refine s_aload_n o dX16_needs_0 rfl 0 rfl ?_
  refine r_getf vI rfl o cf_X16_needs (Or.inl (lw_all_tbl q1166)) dX16_needs_1 (fun v1 hv1 => ?_)
  refine s_iload_n o dX16_needs_4 rfl 1 rfl ?_
  refine s_ishr o dX16_needs_5 ?_
  refine s_iconst o dX16_needs_6 ?_
  refine s_iand o dX16_needs_7 ?_
  refine s_iconst o dX16_needs_8 ?_
  refine s_icmp_ne (tgt := 16) o dX16_needs_9 (by decide) (iand_R _ _) (r32 rfl) ?_ ?_
  · refine s_iconst o dX16_needs_16 ?_
    exact s_iret o rfl i_boolean (Or.inl rfl) dX16_needs_17 (fun _ hh => hh)
  · refine s_iconst o dX16_needs_12 ?_
    refine s_goto (tgt := 17) o dX16_needs_13 (by decide) ?_
    exact s_iret o rfl i_boolean (Or.inr rfl) dX16_needs_17 (fun _ hh => hh)
theorem dX21_step_0 : decode cX21_step 0 = .ok (.aload_n 0, 1) := by decide +kernel
theorem dX21_step_1 : decode cX21_step 1 = .ok (.invokevirtual 33, 3) := by decide +kernel
theorem dX21_step_4 : decode cX21_step 4 = .ok (.astore_n 3, 1) := by decide +kernel
theorem dX21_step_5 : decode cX21_step 5 = .ok (.aload_n 3, 1) := by decide +kernel
theorem dX21_step_6 : decode cX21_step 6 = .ok (.ifnonnull 34, 3) := by decide +kernel
theorem dX21_step_9 : decode cX21_step 9 = .ok (.aload_n 1, 1) := by decide +kernel
theorem dX21_step_10 : decode cX21_step 10 = .ok (.aload_n 0, 1) := by decide +kernel
theorem dX21_step_11 : decode cX21_step 11 = .ok (.getfield 15, 3) := by decide +kernel
theorem dX21_step_14 : decode cX21_step 14 = .ok (.iconst 0, 1) := by decide +kernel
theorem dX21_step_15 : decode cX21_step 15 = .ok (.invokevirtual 86, 3) := by decide +kernel
theorem dX21_step_18 : decode cX21_step 18 = .ok (.ifCond .ne 4, 3) := by decide +kernel
theorem dX21_step_21 : decode cX21_step 21 = .ok (.return_, 1) := by decide +kernel
theorem dX21_step_22 : decode cX21_step 22 = .ok (.aload_n 1, 1) := by decide +kernel
theorem dX21_step_23 : decode cX21_step 23 = .ok (.aload_n 0, 1) := by decide +kernel
theorem dX21_step_24 : decode cX21_step 24 = .ok (.getfield 15, 3) := by decide +kernel
theorem dX21_step_27 : decode cX21_step 27 = .ok (.arraylength, 1) := by decide +kernel
theorem dX21_step_28 : decode cX21_step 28 = .ok (.invokevirtual 90, 3) := by decide +kernel
theorem dX21_step_31 : decode cX21_step 31 = .ok (.aload_n 1, 1) := by decide +kernel
theorem dX21_step_32 : decode cX21_step 32 = .ok (.aload_n 0, 1) := by decide +kernel
theorem dX21_step_33 : decode cX21_step 33 = .ok (.getfield 9, 3) := by decide +kernel
theorem dX21_step_36 : decode cX21_step 36 = .ok (.invokevirtual 94, 3) := by decide +kernel
theorem dX21_step_39 : decode cX21_step 39 = .ok (.return_, 1) := by decide +kernel
theorem dX21_step_40 : decode cX21_step 40 = .ok (.aload_n 3, 1) := by decide +kernel
theorem dX21_step_41 : decode cX21_step 41 = .ok (.invokevirtual 36, 3) := by decide +kernel
theorem dX21_step_44 : decode cX21_step 44 = .ok (.istore 4, 2) := by decide +kernel
theorem dX21_step_46 : decode cX21_step 46 = .ok (.aload_n 0, 1) := by decide +kernel
theorem dX21_step_47 : decode cX21_step 47 = .ok (.getfield 15, 3) := by decide +kernel
theorem dX21_step_50 : decode cX21_step 50 = .ok (.arraylength, 1) := by decide +kernel
theorem dX21_step_51 : decode cX21_step 51 = .ok (.iload 4, 2) := by decide +kernel
theorem dX21_step_53 : decode cX21_step 53 = .ok (.if_icmp .ge 24, 3) := by decide +kernel
theorem dX21_step_56 : decode cX21_step 56 = .ok (.aload_n 0, 1) := by decide +kernel
theorem dX21_step_57 : decode cX21_step 57 = .ok (.aload_n 1, 1) := by decide +kernel
theorem dX21_step_58 : decode cX21_step 58 = .ok (.invokevirtual 97, 3) := by decide +kernel
theorem dX21_step_61 : decode cX21_step 61 = .ok (.lstore 5, 2) := by decide +kernel
theorem dX21_step_63 : decode cX21_step 63 = .ok (.lload 5, 2) := by decide +kernel
theorem dX21_step_65 : decode cX21_step 65 = .ok (.lconst 0, 1) := by decide +kernel
theorem dX21_step_66 : decode cX21_step 66 = .ok (.lcmp, 1) := by decide +kernel
theorem dX21_step_67 : decode cX21_step 67 = .ok (.ifCond .lt 9, 3) := by decide +kernel
theorem dX21_step_70 : decode cX21_step 70 = .ok (.aload_n 1, 1) := by decide +kernel
theorem dX21_step_71 : decode cX21_step 71 = .ok (.lload 5, 2) := by decide +kernel
theorem dX21_step_73 : decode cX21_step 73 = .ok (.invokevirtual 100, 3) := by decide +kernel
theorem dX21_step_76 : decode cX21_step 76 = .ok (.return_, 1) := by decide +kernel
theorem dX21_step_77 : decode cX21_step 77 = .ok (.iload_n 2, 1) := by decide +kernel
theorem dX21_step_78 : decode cX21_step 78 = .ok (.istore 5, 2) := by decide +kernel
theorem dX21_step_80 : decode cX21_step 80 = .ok (.iload 5, 2) := by decide +kernel
theorem dX21_step_82 : decode cX21_step 82 = .ok (.iload 4, 2) := by decide +kernel
theorem dX21_step_84 : decode cX21_step 84 = .ok (.if_icmp .ge 83, 3) := by decide +kernel
theorem dX21_step_87 : decode cX21_step 87 = .ok (.aload_n 1, 1) := by decide +kernel
theorem dX21_step_88 : decode cX21_step 88 = .ok (.getfield 104, 3) := by decide +kernel
theorem dX21_step_91 : decode cX21_step 91 = .ok (.ifCond .eq 43, 3) := by decide +kernel
theorem dX21_step_94 : decode cX21_step 94 = .ok (.aload_n 3, 1) := by decide +kernel
theorem dX21_step_95 : decode cX21_step 95 = .ok (.iload 5, 2) := by decide +kernel
theorem dX21_step_97 : decode cX21_step 97 = .ok (.invokevirtual 108, 3) := by decide +kernel
theorem dX21_step_100 : decode cX21_step 100 = .ok (.ifCond .eq 34, 3) := by decide +kernel
theorem dX21_step_103 : decode cX21_step 103 = .ok (.aload_n 1, 1) := by decide +kernel
theorem dX21_step_104 : decode cX21_step 104 = .ok (.dup, 1) := by decide +kernel
theorem dX21_step_105 : decode cX21_step 105 = .ok (.getfield 111, 3) := by decide +kernel
theorem dX21_step_108 : decode cX21_step 108 = .ok (.iconst 1, 1) := by decide +kernel
theorem dX21_step_109 : decode cX21_step 109 = .ok (.iadd, 1) := by decide +kernel
theorem dX21_step_110 : decode cX21_step 110 = .ok (.putfield 111, 3) := by decide +kernel
theorem dX21_step_113 : decode cX21_step 113 = .ok (.aload_n 1, 1) := by decide +kernel
theorem dX21_step_114 : decode cX21_step 114 = .ok (.aload_n 0, 1) := by decide +kernel
theorem dX21_step_115 : decode cX21_step 115 = .ok (.iload 5, 2) := by decide +kernel
theorem dX21_step_117 : decode cX21_step 117 = .ok (.iconst 1, 1) := by decide +kernel
theorem dX21_step_118 : decode cX21_step 118 = .ok (.iadd, 1) := by decide +kernel
theorem dX21_step_119 : decode cX21_step 119 = .ok (.invokevirtual 115, 3) := by decide +kernel
theorem dX21_step_122 : decode cX21_step 122 = .ok (.aload_n 1, 1) := by decide +kernel
theorem dX21_step_123 : decode cX21_step 123 = .ok (.aload_n 0, 1) := by decide +kernel
theorem dX21_step_124 : decode cX21_step 124 = .ok (.getfield 15, 3) := by decide +kernel
theorem dX21_step_127 : decode cX21_step 127 = .ok (.iload 5, 2) := by decide +kernel
theorem dX21_step_129 : decode cX21_step 129 = .ok (.aaload, 1) := by decide +kernel
theorem dX21_step_130 : decode cX21_step 130 = .ok (.invokevirtual 94, 3) := by decide +kernel
theorem dX21_step_133 : decode cX21_step 133 = .ok (.return_, 1) := by decide +kernel
theorem dX21_step_134 : decode cX21_step 134 = .ok (.aload_n 0, 1) := by decide +kernel
theorem dX21_step_135 : decode cX21_step 135 = .ok (.getfield 15, 3) := by decide +kernel
theorem dX21_step_138 : decode cX21_step 138 = .ok (.iload 5, 2) := by decide +kernel
theorem dX21_step_140 : decode cX21_step 140 = .ok (.aaload, 1) := by decide +kernel
theorem dX21_step_141 : decode cX21_step 141 = .ok (.aload_n 1, 1) := by decide +kernel
theorem dX21_step_142 : decode cX21_step 142 = .ok (.invokevirtual 119, 3) := by decide +kernel
theorem dX21_step_145 : decode cX21_step 145 = .ok (.lstore 6, 2) := by decide +kernel
theorem dX21_step_147 : decode cX21_step 147 = .ok (.lload 6, 2) := by decide +kernel
theorem dX21_step_149 : decode cX21_step 149 = .ok (.lconst 0, 1) := by decide +kernel
theorem dX21_step_150 : decode cX21_step 150 = .ok (.lcmp, 1) := by decide +kernel
theorem dX21_step_151 : decode cX21_step 151 = .ok (.ifCond .ge 4, 3) := by decide +kernel
theorem dX21_step_154 : decode cX21_step 154 = .ok (.return_, 1) := by decide +kernel
theorem dX21_step_155 : decode cX21_step 155 = .ok (.aload_n 1, 1) := by decide +kernel
theorem dX21_step_156 : decode cX21_step 156 = .ok (.lload 6, 2) := by decide +kernel
theorem dX21_step_158 : decode cX21_step 158 = .ok (.invokevirtual 100, 3) := by decide +kernel
theorem dX21_step_161 : decode cX21_step 161 = .ok (.iinc 5 1, 3) := by decide +kernel
theorem dX21_step_164 : decode cX21_step 164 = .ok (.goto (-84), 3) := by decide +kernel
theorem dX21_step_167 : decode cX21_step 167 = .ok (.aload_n 1, 1) := by decide +kernel
theorem dX21_step_168 : decode cX21_step 168 = .ok (.aload_n 0, 1) := by decide +kernel
theorem dX21_step_169 : decode cX21_step 169 = .ok (.getfield 15, 3) := by decide +kernel
theorem dX21_step_172 : decode cX21_step 172 = .ok (.iload 4, 2) := by decide +kernel
theorem dX21_step_174 : decode cX21_step 174 = .ok (.invokevirtual 86, 3) := by decide +kernel
theorem dX21_step_177 : decode cX21_step 177 = .ok (.ifCond .eq 14, 3) := by decide +kernel
theorem dX21_step_180 : decode cX21_step 180 = .ok (.aload_n 1, 1) := by decide +kernel
theorem dX21_step_181 : decode cX21_step 181 = .ok (.aload_n 3, 1) := by decide +kernel
theorem dX21_step_182 : decode cX21_step 182 = .ok (.iconst (-1), 1) := by decide +kernel
theorem dX21_step_183 : decode cX21_step 183 = .ok (.aload_n 0, 1) := by decide +kernel
theorem dX21_step_184 : decode cX21_step 184 = .ok (.getfield 15, 3) := by decide +kernel
theorem dX21_step_187 : decode cX21_step 187 = .ok (.arraylength, 1) := by decide +kernel
theorem dX21_step_188 : decode cX21_step 188 = .ok (.invokevirtual 120, 3) := by decide +kernel
theorem dX21_step_191 : decode cX21_step 191 = .ok (.return_, 1) := by decide +kernel
theorem mw_X21_step : MW yX21_step (Cond.code yX21_step cX21_step 8 (Option.none : Option Jvm.ClassFile.FieldType)) cX21_step 8 (Option.none : Option Jvm.ClassFile.FieldType) 2 := ⟨rfl, ⟨(lw_all_tbl q2242), rfl, (lw_all_tbl q201)⟩, rfl, ⟨by decide, by decide⟩, by decide +kernel⟩
abbrev okc_X21_step_80 (x : Int × Int × Int × Int × Int) : Prop := R32 x.2.2.2.1 ∧ R32 x.2.2.2.2
abbrev lvc_X21_step_80 (Γ : Gm) (x : Int × Int × Int × Int × Int) : List (Nat × Value) := [(0, vA (mg Γ) x.1), (1, vA (mg Γ) x.2.1), (3, vA (mg Γ) x.2.2.1), (4, vI x.2.2.2.1), (5, vI x.2.2.2.2)]
noncomputable def c_X21_step_134 {A : Type} (k_103 : Int → Int → Int → Mo CH A) (k_154 : Mo CH A) (k_167 : Int → Int → Int → Int → Mo CH A) (l0 : Int) (l1 : Int) (l3 : Int) (l4 : Int) (l5 : Int) : Mo CH ((Int × Int × Int × Int × Int) ⊕ A) :=
  bnd (gf [121] 6 l0) fun v1 =>
  bnd (ald 5 v1 l5) fun v2 =>
  bnd (v_X4_keep v2 l1) fun v3 =>
  if 0 ≤ v3 then
    bnd (isk 103 l1) fun _ =>
    bnd (c_X3_give l1 v3) fun _ =>
    pr (.inl (l0, l1, l3, l4, (w32 (l5 + 1))))
  else
    lo k_154
theorem sc_X21_step_134 {Γ : Gm} {ts : TS} {d : Nat} (o : Ok Γ "LazyForge$Apply" cX21_step 8 (Option.none : Option Jvm.ClassFile.FieldType) (d + 207)) {A : Type} {K : A → CH → Prop}  (k_103 : Int → Int → Int → Mo CH A) (k_154 : Mo CH A) (k_167 : Int → Int → Int → Int → Mo CH A) (hk_103 : ∀ (l0 : Int) (l1 : Int) (l5 : Int), R32 l5 → Sx Γ (fun h => (h, ts)) K 103 [(0, vA (mg Γ) l0), (1, vA (mg Γ) l1), (5, vI l5)] [] (k_103 l0 l1 l5)) (hk_154 : Sx Γ (fun h => (h, ts)) K 154 [] [] (k_154)) (hk_167 : ∀ (l0 : Int) (l1 : Int) (l3 : Int) (l4 : Int), R32 l4 → Sx Γ (fun h => (h, ts)) K 167 [(0, vA (mg Γ) l0), (1, vA (mg Γ) l1), (3, vA (mg Γ) l3), (4, vI l4)] [] (k_167 l0 l1 l3 l4)) (l0 : Int) (l1 : Int) (l3 : Int) (l4 : Int) (l5 : Int) (hl4 : R32 l4) (hl5 : R32 l5) : Sx Γ (fun h => (h, ts)) (KL Γ (fun h => (h, ts)) okc_X21_step_80 K 80 (lvc_X21_step_80 Γ) []) 134 [(0, vA (mg Γ) l0), (1, vA (mg Γ) l1), (3, vA (mg Γ) l3), (4, vI l4), (5, vI l5)] [] (c_X21_step_134 k_103 k_154 k_167 l0 l1 l3 l4 l5) := by
  unfold c_X21_step_134
  refine s_aload_n o dX21_step_134 rfl 0 rfl ?_
  refine r_getf (vA (mg Γ)) rfl o cf_X21_arguments (Or.inl (lw_all_tbl q1469)) dX21_step_135 (fun v1 hv1 => ?_)
  refine s_iload o dX21_step_138 4 rfl ?_
  refine r_aald (kd := 5) o (by decide) rfl hl5 dX21_step_140 (fun v2 => ?_)
  refine s_aload_n o dX21_step_141 rfl 1 rfl ?_
  refine s_cu (d := d + 206) (As := [vA (mg Γ) l1]) (st := []) (owner := "LazyForge$Part") o (sv_X4_keep (mg Γ) (d + 1) ts v2 l1) rfl (lw_all_tbl q2342) (lw_all_tbl q2249) (Or.inl q2248) ⟨by decide, by decide⟩ (by decide +kernel) wt_0 rfl dX21_step_142 rfl (rs := fun r => [vJ r]) (fun _ => rfl) (fun v3 hv3 => ?_)
  refine r_lstore o dX21_step_145 rfl ⟨(Nat.ne_of_beq_eq_false rfl), (Nat.ne_of_beq_eq_false rfl), (fun _ => (vA_cat (mg Γ) l0)), ⟨(Nat.ne_of_beq_eq_false rfl), (Nat.ne_of_beq_eq_false rfl), (fun _ => (vA_cat (mg Γ) l1)), ⟨(Nat.ne_of_beq_eq_false rfl), (Nat.ne_of_beq_eq_false rfl), (fun _ => (vA_cat (mg Γ) l3)), ⟨(Nat.ne_of_beq_eq_false rfl), (Nat.ne_of_beq_eq_false rfl), (fun _ => rfl), ⟨(Nat.ne_of_beq_eq_false rfl), (Nat.ne_of_beq_eq_false rfl), (fun _ => rfl), trivial⟩⟩⟩⟩⟩ ?_
  refine s_lload o dX21_step_147 0 rfl ?_
  refine s_lconst (x := 0) o dX21_step_149 rfl ?_
  refine s_lcmp_ge (tgt := 155) o dX21_step_150 dX21_step_151 (by decide) (hv3 _ rfl) (r64 rfl) ?_ ?_
  · refine s_aload_n o dX21_step_155 rfl 2 rfl ?_
    refine s_lload o dX21_step_156 0 rfl ?_
    refine s_cvC (d := d + 206) (As := [vJ v3]) (st := []) (c := 3) o (sc_X3_give (mg Γ) (d + 204) ts l1 v3 (hv3 _ rfl)) mw_X3_give rfl (Or.inl (lw_all_tbl q2339)) rfl (lw_all_tbl q2188) (lw_all_tbl q2187) wt_0 rfl dX21_step_158 rfl (rs := fun _ => []) (fun _ => rfl) (fun _ _ => ?_)
    refine r_iinc (j := 5) o dX21_step_161 rfl rfl [(6, vJ v3), (0, vA (mg Γ) l0), (1, vA (mg Γ) l1), (3, vA (mg Γ) l3), (4, vI l4)] [0, 1, 2, 3, 4] rfl ⟨(Nat.ne_of_beq_eq_false rfl), (fun e => absurd e (Nat.ne_of_beq_eq_false rfl)), ⟨(Nat.ne_of_beq_eq_false rfl), (fun _ => (vA_cat (mg Γ) l0)), ⟨(Nat.ne_of_beq_eq_false rfl), (fun _ => (vA_cat (mg Γ) l1)), ⟨(Nat.ne_of_beq_eq_false rfl), (fun _ => (vA_cat (mg Γ) l3)), ⟨(Nat.ne_of_beq_eq_false rfl), (fun _ => rfl), trivial⟩⟩⟩⟩⟩ ?_
    refine s_goto (tgt := 80) o dX21_step_164 (by decide) ?_
    refine r_to [(0, vA (mg Γ) l0), (1, vA (mg Γ) l1), (3, vA (mg Γ) l3), (4, vI l4), (5, vI (w32 (l5 + 1)))] [2, 3, 4, 5, 0] rfl ?_
    exact s_back (⟨hl4, (w32_R _)⟩) rfl
  · refine r_to [] [] rfl ?_
    exact s_lo hk_154
noncomputable def c_X21_step_80b {A : Type} (k_103 : Int → Int → Int → Mo CH A) (k_154 : Mo CH A) (k_167 : Int → Int → Int → Int → Mo CH A) (l0 : Int) (l1 : Int) (l3 : Int) (l4 : Int) (l5 : Int) : Mo CH ((Int × Int × Int × Int × Int) ⊕ A) :=
  if l4 ≤ l5 then
    lo (k_167 l0 l1 l3 l4)
  else
    bnd (gf [103] 17 l1) fun v1 =>
    if v1 = 0 then
      c_X21_step_134 k_103 k_154 k_167 l0 l1 l3 l4 l5
    else
      bnd (isk 116 l3) fun _ =>
      bnd (c_X16_needs l3 l5) fun v2 =>
      if v2 = 0 then
        c_X21_step_134 k_103 k_154 k_167 l0 l1 l3 l4 l5
      else
        lo (k_103 l0 l1 l5)
theorem sc_X21_step_80b {Γ : Gm} {ts : TS} {d : Nat} (o : Ok Γ "LazyForge$Apply" cX21_step 8 (Option.none : Option Jvm.ClassFile.FieldType) (d + 207)) {A : Type} {K : A → CH → Prop} (k_103 : Int → Int → Int → Mo CH A) (k_154 : Mo CH A) (k_167 : Int → Int → Int → Int → Mo CH A) (hk_103 : ∀ (l0 : Int) (l1 : Int) (l5 : Int), R32 l5 → Sx Γ (fun h => (h, ts)) K 103 [(0, vA (mg Γ) l0), (1, vA (mg Γ) l1), (5, vI l5)] [] (k_103 l0 l1 l5)) (hk_154 : Sx Γ (fun h => (h, ts)) K 154 [] [] (k_154)) (hk_167 : ∀ (l0 : Int) (l1 : Int) (l3 : Int) (l4 : Int), R32 l4 → Sx Γ (fun h => (h, ts)) K 167 [(0, vA (mg Γ) l0), (1, vA (mg Γ) l1), (3, vA (mg Γ) l3), (4, vI l4)] [] (k_167 l0 l1 l3 l4)) (l0 : Int) (l1 : Int) (l3 : Int) (l4 : Int) (l5 : Int) (hl4 : R32 l4) (hl5 : R32 l5) : Sx Γ (fun h => (h, ts)) (KL Γ (fun h => (h, ts)) okc_X21_step_80 K 80 (lvc_X21_step_80 Γ) []) 80 [(0, vA (mg Γ) l0), (1, vA (mg Γ) l1), (3, vA (mg Γ) l3), (4, vI l4), (5, vI l5)] [] (c_X21_step_80b k_103 k_154 k_167 l0 l1 l3 l4 l5) := by
  unfold c_X21_step_80b
  refine s_iload o dX21_step_80 4 rfl ?_
  refine s_iload o dX21_step_82 3 rfl ?_
  refine s_icmp_ge (tgt := 167) o dX21_step_84 (by decide) hl5 hl4 ?_ ?_
  · refine r_to [(0, vA (mg Γ) l0), (1, vA (mg Γ) l1), (3, vA (mg Γ) l3), (4, vI l4)] [0, 1, 2, 3] rfl ?_
    exact s_lo (hk_167 l0 l1 l3 l4 hl4)
  · refine s_aload_n o dX21_step_87 rfl 1 rfl ?_
    refine r_getf vI rfl o cf_X3_isEager (Or.inr (Or.inl ⟨_, q347⟩)) dX21_step_88 (fun v1 hv1 => ?_)
    refine s_if_eq (tgt := 134) o dX21_step_91 (by decide) (rZ hv1) ?_ ?_
    · exact sc_X21_step_134 o k_103 k_154 k_167 hk_103 hk_154 hk_167 l0 l1 l3 l4 l5 hl4 hl5
    · refine s_aload_n o dX21_step_94 rfl 2 rfl ?_
      refine s_iload o dX21_step_95 4 rfl ?_
      refine s_cvC (d := d + 206) (As := [vI l5]) (st := []) (c := 16) o (sc_X16_needs (mg Γ) (d + 206) ts l3 l5 hl5) mw_X16_needs rfl (Or.inl (lw_all_tbl q2340)) rfl (lw_all_tbl q2133) (lw_all_tbl q2132) wt_0 rfl dX21_step_97 rfl (rs := fun r => [vI r]) (fun _ => rfl) (fun v2 hv2 => ?_)
      refine s_if_eq (tgt := 134) o dX21_step_100 (by decide) (rZ (hv2 _ rfl)) ?_ ?_
      · exact sc_X21_step_134 o k_103 k_154 k_167 hk_103 hk_154 hk_167 l0 l1 l3 l4 l5 hl4 hl5
      · refine r_to [(0, vA (mg Γ) l0), (1, vA (mg Γ) l1), (5, vI l5)] [0, 1, 4] rfl ?_
        exact s_lo (hk_103 l0 l1 l5 hl5)
noncomputable def c_X21_step_80 {A : Type} (k_103 : Int → Int → Int → Mo CH A) (k_154 : Mo CH A) (k_167 : Int → Int → Int → Int → Mo CH A) (l0 : Int) (l1 : Int) (l3 : Int) (l4 : Int) (l5 : Int) : Mo CH A := Loop (fun x => c_X21_step_80b k_103 k_154 k_167 x.1 x.2.1 x.2.2.1 x.2.2.2.1 x.2.2.2.2) (l0, l1, l3, l4, l5)
theorem sc_X21_step_80 {Γ : Gm} {ts : TS} {d : Nat} (o : Ok Γ "LazyForge$Apply" cX21_step 8 (Option.none : Option Jvm.ClassFile.FieldType) (d + 207)) {A : Type} {K : A → CH → Prop} (k_103 : Int → Int → Int → Mo CH A) (k_154 : Mo CH A) (k_167 : Int → Int → Int → Int → Mo CH A) (hk_103 : ∀ (l0 : Int) (l1 : Int) (l5 : Int), R32 l5 → Sx Γ (fun h => (h, ts)) K 103 [(0, vA (mg Γ) l0), (1, vA (mg Γ) l1), (5, vI l5)] [] (k_103 l0 l1 l5)) (hk_154 : Sx Γ (fun h => (h, ts)) K 154 [] [] (k_154)) (hk_167 : ∀ (l0 : Int) (l1 : Int) (l3 : Int) (l4 : Int), R32 l4 → Sx Γ (fun h => (h, ts)) K 167 [(0, vA (mg Γ) l0), (1, vA (mg Γ) l1), (3, vA (mg Γ) l3), (4, vI l4)] [] (k_167 l0 l1 l3 l4)) (l0 : Int) (l1 : Int) (l3 : Int) (l4 : Int) (l5 : Int) (hl4 : R32 l4) (hl5 : R32 l5) : Sx Γ (fun h => (h, ts)) K 80 [(0, vA (mg Γ) l0), (1, vA (mg Γ) l1), (3, vA (mg Γ) l3), (4, vI l4), (5, vI l5)] [] (c_X21_step_80 k_103 k_154 k_167 l0 l1 l3 l4 l5) :=
  s_loop okc_X21_step_80 (lvc_X21_step_80 Γ) (fun x hx => sc_X21_step_80b o k_103 k_154 k_167 hk_103 hk_154 hk_167 x.1 x.2.1 x.2.2.1 x.2.2.2.1 x.2.2.2.2 hx.1 hx.2) (x := (l0, l1, l3, l4, l5)) ⟨hl4, hl5⟩
noncomputable def c_X21_step (l0 : Int) (l1 : Int) (l2 : Int) : Mo CH Int :=
  bnd (isk 121 l0) fun _ =>
  bnd (c_X21_function l0) fun v1 =>
  if ¬ v1 = 0 then
    bnd (isk 116 v1) fun _ =>
    bnd (c_X16_parameters v1) fun v2 =>
    bnd (gf [121] 6 l0) fun v3 =>
    bnd (aln v3) fun v4 =>
    if v2 ≤ v4 then
      c_X21_step_80
        (fun v5 v6 v7 => bnd (gf [103] 30 v6) fun v8 =>
      bnd (pf [103] 30 v6 (w32 (v8 + 1))) fun _ =>
      bnd (isk 103 v6) fun _ =>
      bnd (c_X3_again v6 v5 (w32 (v7 + 1))) fun _ =>
      bnd (gf [121] 6 v5) fun v9 =>
      bnd (ald 5 v9 v7) fun v10 =>
      bnd (isk 103 v6) fun _ =>
      bnd (c_X3_work v6 v10) fun _ =>
      pr 0)
        (pr 0)
        (fun v11 v12 v13 v14 => bnd (gf [121] 6 v11) fun v15 =>
      bnd (isk 103 v12) fun _ =>
      bnd (c_X3_keepAll v12 v15 v14) fun v16 =>
      if v16 = 0 then
        pr 0
      else
        bnd (gf [121] 6 v11) fun v17 =>
        bnd (aln v17) fun v18 =>
        bnd (isk 103 v12) fun _ =>
        bnd (c_X3_call v12 v13 (-1) v18) fun _ =>
        pr 0) l0 l1 v1 v2 l2
    else
      bnd (isk 121 l0) fun _ =>
      bnd (c_X21_keep l0 l1) fun v19 =>
      if v19 < 0 then
        pr 0
      else
        bnd (isk 103 l1) fun _ =>
        bnd (c_X3_give l1 v19) fun _ =>
        pr 0
  else
    bnd (gf [121] 6 l0) fun v20 =>
    bnd (isk 103 l1) fun _ =>
    bnd (c_X3_keepAll l1 v20 0) fun v21 =>
    if ¬ v21 = 0 then
      bnd (gf [121] 6 l0) fun v22 =>
      bnd (aln v22) fun v23 =>
      bnd (isk 103 l1) fun _ =>
      bnd (c_X3_apply l1 v23) fun _ =>
      bnd (gf [121] 5 l0) fun v24 =>
      bnd (isk 103 l1) fun _ =>
      bnd (c_X3_work l1 v24) fun _ =>
      pr 0
    else
      pr 0
theorem sc_X21_step (g : gC) (d : Nat) (ts : TS) (l0 : Int) (l1 : Int) (l2 : Int) (hl2 : R32 l2) : SF g yX21_step (Cond.code yX21_step cX21_step 8 (Option.none : Option Jvm.ClassFile.FieldType)) (Option.none : Option Jvm.ClassFile.FieldType) (d + 207) [vA g l0, vA g l1, vI l2] (fun h => (h, ts)) (c_X21_step l0 l1 l2) := by
  refine SF.of (lv := [(0, vA g l0), (1, vA g l1), (2, vI l2)]) (by decide) (wt_A (wt_A (wt_I wt_0))) rfl (by simp only [la_A, la_I, la_J, la_0]) (fun Γ hg hnm o => ?_)
  subst hg
  have o : Ok Γ "LazyForge$Apply" cX21_step 8 (Option.none : Option Jvm.ClassFile.FieldType) (d + 207) := o
  unfold c_X21_step
  refine s_aload_n o dX21_step_0 rfl 0 rfl ?_
  refine s_cvC (d := d + 206) (As := []) (st := []) (c := 21) o (sc_X21_function (mg Γ) (d + 203) ts l0) mw_X21_function rfl (Or.inl (lw_all_tbl q1873)) rfl (lw_all_tbl qs46) (lw_all_tbl q1875) wt_0 rfl dX21_step_1 rfl (rs := fun r => [vA (mg Γ) r]) (fun _ => rfl) (fun v1 hv1 => ?_)
  refine r_astore_n o dX21_step_4 rfl rfl ⟨(Nat.ne_of_beq_eq_false rfl), (fun _ => (vA_cat (mg Γ) l0)), ⟨(Nat.ne_of_beq_eq_false rfl), (fun _ => (vA_cat (mg Γ) l1)), ⟨(Nat.ne_of_beq_eq_false rfl), (fun _ => rfl), trivial⟩⟩⟩ ?_
  refine s_aload_n o dX21_step_5 rfl 0 rfl ?_
  refine s_ifnonnull (tgt := 40) o dX21_step_6 (by decide) ?_ ?_
  · refine s_aload_n o dX21_step_40 rfl 0 rfl ?_
    refine s_cvC (d := d + 206) (As := []) (st := []) (c := 16) o (sc_X16_parameters (mg Γ) (d + 205) ts v1) mw_X16_parameters rfl (Or.inl (lw_all_tbl q1729)) rfl (lw_all_tbl q1606) (lw_all_tbl q1605) wt_0 rfl dX21_step_41 rfl (rs := fun r => [vI r]) (fun _ => rfl) (fun v2 hv2 => ?_)
    refine r_istore o dX21_step_44 rfl ⟨(Nat.ne_of_beq_eq_false rfl), (fun _ => (vA_cat (mg Γ) v1)), ⟨(Nat.ne_of_beq_eq_false rfl), (fun _ => (vA_cat (mg Γ) l0)), ⟨(Nat.ne_of_beq_eq_false rfl), (fun _ => (vA_cat (mg Γ) l1)), ⟨(Nat.ne_of_beq_eq_false rfl), (fun _ => rfl), trivial⟩⟩⟩⟩ ?_
    refine s_aload_n o dX21_step_46 rfl 2 rfl ?_
    refine r_getf (vA (mg Γ)) rfl o cf_X21_arguments (Or.inl (lw_all_tbl q1469)) dX21_step_47 (fun v3 hv3 => ?_)
    refine s_alen o dX21_step_50 (fun v4 hv4 => ?_)
    refine s_iload o dX21_step_51 0 rfl ?_
    refine s_icmp_ge (tgt := 77) o dX21_step_53 (by decide) (rN hv4) (hv2 _ rfl) ?_ ?_
    · refine s_iload_n o dX21_step_77 rfl 4 rfl ?_
      refine r_istore o dX21_step_78 rfl ⟨(Nat.ne_of_beq_eq_false rfl), (fun _ => rfl), ⟨(Nat.ne_of_beq_eq_false rfl), (fun _ => (vA_cat (mg Γ) v1)), ⟨(Nat.ne_of_beq_eq_false rfl), (fun _ => (vA_cat (mg Γ) l0)), ⟨(Nat.ne_of_beq_eq_false rfl), (fun _ => (vA_cat (mg Γ) l1)), ⟨(Nat.ne_of_beq_eq_false rfl), (fun _ => rfl), trivial⟩⟩⟩⟩⟩ ?_
      refine r_to [(0, vA (mg Γ) l0), (1, vA (mg Γ) l1), (3, vA (mg Γ) v1), (4, vI v2), (5, vI l2)] [3, 4, 2, 1, 0] rfl ?_
      refine sc_X21_step_80 o _ _ _ ?_ ?_ ?_ l0 l1 v1 v2 l2 (hv2 _ rfl) hl2
      · intro v5 v6 v7 hv7
        refine s_aload_n o dX21_step_103 rfl 1 rfl ?_
        refine s_dup o dX21_step_104 (vA_cat (mg Γ) v6) ?_
        refine r_getf vI rfl o cf_X3_atOnce (Or.inr (Or.inl ⟨_, q372⟩)) dX21_step_105 (fun v8 hv8 => ?_)
        refine s_iconst o dX21_step_108 ?_
        refine s_iadd o dX21_step_109 ?_
        refine r_putf vI rfl o cf_X3_atOnce (Or.inr (Or.inl ⟨_, q372⟩)) dX21_step_110 (Or.inl rfl) (w32_R _) ty_int ?_
        refine s_aload_n o dX21_step_113 rfl 1 rfl ?_
        refine s_aload_n o dX21_step_114 rfl 0 rfl ?_
        refine s_iload o dX21_step_115 2 rfl ?_
        refine s_iconst o dX21_step_117 ?_
        refine s_iadd o dX21_step_118 ?_
        refine s_cvC (d := d + 206) (As := [vA (mg Γ) v5, vI (w32 (v7 + 1))]) (st := []) (c := 3) o (sc_X3_again (mg Γ) (d + 205) ts v6 v5 (w32 (v7 + 1)) (w32_R _)) mw_X3_again rfl (Or.inl (lw_all_tbl q2341)) rfl (lw_all_tbl q2176) (lw_all_tbl q2175) wt_0 rfl dX21_step_119 rfl (rs := fun _ => []) (fun _ => rfl) (fun _ _ => ?_)
        refine s_aload_n o dX21_step_122 rfl 1 rfl ?_
        refine s_aload_n o dX21_step_123 rfl 0 rfl ?_
        refine r_getf (vA (mg Γ)) rfl o cf_X21_arguments (Or.inl (lw_all_tbl q1469)) dX21_step_124 (fun v9 hv9 => ?_)
        refine s_iload o dX21_step_127 2 rfl ?_
        refine r_aald (kd := 5) o (by decide) rfl hv7 dX21_step_129 (fun v10 => ?_)
        refine s_cvC (d := d + 206) (As := [vA (mg Γ) v10]) (st := []) (c := 3) o (sc_X3_work (mg Γ) (d + 204) ts v6 v10) mw_X3_work rfl (Or.inl (lw_all_tbl q2337)) rfl (lw_all_tbl q2210) (lw_all_tbl q2209) wt_0 rfl dX21_step_130 rfl (rs := fun _ => []) (fun _ => rfl) (fun _ _ => ?_)
        exact s_vret o rfl dX21_step_133 (fun _ hh => hh)
      · exact s_vret o rfl dX21_step_154 (fun _ hh => hh)
      · intro v11 v12 v13 v14 hv14
        refine s_aload_n o dX21_step_167 rfl 1 rfl ?_
        refine s_aload_n o dX21_step_168 rfl 0 rfl ?_
        refine r_getf (vA (mg Γ)) rfl o cf_X21_arguments (Or.inl (lw_all_tbl q1469)) dX21_step_169 (fun v15 hv15 => ?_)
        refine s_iload o dX21_step_172 3 rfl ?_
        refine s_cvC (d := d + 206) (As := [vA (mg Γ) v15, vI v14]) (st := []) (c := 3) o (sc_X3_keepAll (mg Γ) d ts v12 v15 v14 hv14) mw_X3_keepAll rfl (Or.inl (lw_all_tbl q2243)) rfl (lw_all_tbl q2245) (lw_all_tbl q2244) wt_0 rfl dX21_step_174 rfl (rs := fun r => [vI r]) (fun _ => rfl) (fun v16 hv16 => ?_)
        refine s_if_eq (tgt := 191) o dX21_step_177 (by decide) (rZ (hv16 _ rfl)) ?_ ?_
        · exact s_vret o rfl dX21_step_191 (fun _ hh => hh)
        · refine s_aload_n o dX21_step_180 rfl 1 rfl ?_
          refine s_aload_n o dX21_step_181 rfl 2 rfl ?_
          refine s_iconst o dX21_step_182 ?_
          refine s_aload_n o dX21_step_183 rfl 0 rfl ?_
          refine r_getf (vA (mg Γ)) rfl o cf_X21_arguments (Or.inl (lw_all_tbl q1469)) dX21_step_184 (fun v17 hv17 => ?_)
          refine s_alen o dX21_step_187 (fun v18 hv18 => ?_)
          refine s_cvC (d := d + 206) (As := [vA (mg Γ) v13, vI (-1), vI v18]) (st := []) (c := 3) o (sc_X3_call (mg Γ) (d + 202) ts v12 v13 (-1) v18 (r32 rfl) (rN hv18)) mw_X3_call rfl (Or.inl (lw_all_tbl q2343)) rfl (lw_all_tbl q2230) (lw_all_tbl q2229) wt_0 rfl dX21_step_188 rfl (rs := fun _ => []) (fun _ => rfl) (fun _ _ => ?_)
          exact s_vret o rfl dX21_step_191 (fun _ hh => hh)
    · refine s_aload_n o dX21_step_56 rfl 2 rfl ?_
      refine s_aload_n o dX21_step_57 rfl 3 rfl ?_
      refine s_cvC (d := d + 206) (As := [vA (mg Γ) l1]) (st := []) (c := 21) o (sc_X21_keep (mg Γ) (d + 1) ts l0 l1) mw_X21_keep rfl (Or.inl (lw_all_tbl q2338)) rfl (lw_all_tbl q3464) (lw_all_tbl q2255) wt_0 rfl dX21_step_58 rfl (rs := fun r => [vJ r]) (fun _ => rfl) (fun v19 hv19 => ?_)
      refine r_lstore o dX21_step_61 rfl ⟨(Nat.ne_of_beq_eq_false rfl), (Nat.ne_of_beq_eq_false rfl), (fun _ => rfl), ⟨(Nat.ne_of_beq_eq_false rfl), (Nat.ne_of_beq_eq_false rfl), (fun _ => (vA_cat (mg Γ) v1)), ⟨(Nat.ne_of_beq_eq_false rfl), (Nat.ne_of_beq_eq_false rfl), (fun _ => (vA_cat (mg Γ) l0)), ⟨(Nat.ne_of_beq_eq_false rfl), (Nat.ne_of_beq_eq_false rfl), (fun _ => (vA_cat (mg Γ) l1)), ⟨(Nat.ne_of_beq_eq_false rfl), (Nat.ne_of_beq_eq_false rfl), (fun _ => rfl), trivial⟩⟩⟩⟩⟩ ?_
      refine s_lload o dX21_step_63 0 rfl ?_
      refine s_lconst (x := 0) o dX21_step_65 rfl ?_
      refine s_lcmp_lt (tgt := 76) o dX21_step_66 dX21_step_67 (by decide) (hv19 _ rfl) (r64 rfl) ?_ ?_
      · exact s_vret o rfl dX21_step_76 (fun _ hh => hh)
      · refine s_aload_n o dX21_step_70 rfl 4 rfl ?_
        refine s_lload o dX21_step_71 0 rfl ?_
        refine s_cvC (d := d + 206) (As := [vJ v19]) (st := []) (c := 3) o (sc_X3_give (mg Γ) (d + 204) ts l1 v19 (hv19 _ rfl)) mw_X3_give rfl (Or.inl (lw_all_tbl q2339)) rfl (lw_all_tbl q2188) (lw_all_tbl q2187) wt_0 rfl dX21_step_73 rfl (rs := fun _ => []) (fun _ => rfl) (fun _ _ => ?_)
        exact s_vret o rfl dX21_step_76 (fun _ hh => hh)
  · refine s_aload_n o dX21_step_9 rfl 2 rfl ?_
    refine s_aload_n o dX21_step_10 rfl 1 rfl ?_
    refine r_getf (vA (mg Γ)) rfl o cf_X21_arguments (Or.inl (lw_all_tbl q1469)) dX21_step_11 (fun v20 hv20 => ?_)
    refine s_iconst o dX21_step_14 ?_
    refine s_cvC (d := d + 206) (As := [vA (mg Γ) v20, vI 0]) (st := []) (c := 3) o (sc_X3_keepAll (mg Γ) d ts l1 v20 0 (r32 rfl)) mw_X3_keepAll rfl (Or.inl (lw_all_tbl q2243)) rfl (lw_all_tbl q2245) (lw_all_tbl q2244) wt_0 rfl dX21_step_15 rfl (rs := fun r => [vI r]) (fun _ => rfl) (fun v21 hv21 => ?_)
    refine s_if_ne (tgt := 22) o dX21_step_18 (by decide) (rZ (hv21 _ rfl)) ?_ ?_
    · refine s_aload_n o dX21_step_22 rfl 2 rfl ?_
      refine s_aload_n o dX21_step_23 rfl 1 rfl ?_
      refine r_getf (vA (mg Γ)) rfl o cf_X21_arguments (Or.inl (lw_all_tbl q1469)) dX21_step_24 (fun v22 hv22 => ?_)
      refine s_alen o dX21_step_27 (fun v23 hv23 => ?_)
      refine s_cvC (d := d + 206) (As := [vI v23]) (st := []) (c := 3) o (sc_X3_apply (mg Γ) (d + 204) ts l1 v23 (rN hv23)) mw_X3_apply rfl (Or.inl (lw_all_tbl q2336)) rfl (lw_all_tbl q2234) (lw_all_tbl q2233) wt_0 rfl dX21_step_28 rfl (rs := fun _ => []) (fun _ => rfl) (fun _ _ => ?_)
      refine s_aload_n o dX21_step_31 rfl 2 rfl ?_
      refine s_aload_n o dX21_step_32 rfl 1 rfl ?_
      refine r_getf (vA (mg Γ)) rfl o cf_X21_head (Or.inl (lw_all_tbl q1468)) dX21_step_33 (fun v24 hv24 => ?_)
      refine s_cvC (d := d + 206) (As := [vA (mg Γ) v24]) (st := []) (c := 3) o (sc_X3_work (mg Γ) (d + 204) ts l1 v24) mw_X3_work rfl (Or.inl (lw_all_tbl q2337)) rfl (lw_all_tbl q2210) (lw_all_tbl q2209) wt_0 rfl dX21_step_36 rfl (rs := fun _ => []) (fun _ => rfl) (fun _ _ => ?_)
      exact s_vret o rfl dX21_step_39 (fun _ hh => hh)
    · exact s_vret o rfl dX21_step_21 (fun _ hh => hh)
theorem dX22_fits_0 : decode cX22_fits 0 = .ok (.aload_n 0, 1) := by decide +kernel
theorem dX22_fits_1 : decode cX22_fits 1 = .ok (.getfield 15, 3) := by decide +kernel
theorem dX22_fits_4 : decode cX22_fits 4 = .ok (.iload_n 2, 1) := by decide +kernel
theorem dX22_fits_5 : decode cX22_fits 5 = .ok (.iaload, 1) := by decide +kernel
theorem dX22_fits_6 : decode cX22_fits 6 = .ok (.istore 5, 2) := by decide +kernel
theorem dX22_fits_8 : decode cX22_fits 8 = .ok (.iload 5, 2) := by decide +kernel
theorem dX22_fits_10 : decode cX22_fits 10 = .ok (.iconst (-1), 1) := by decide +kernel
theorem dX22_fits_11 : decode cX22_fits 11 = .ok (.if_icmp .ne 5, 3) := by decide +kernel
theorem dX22_fits_14 : decode cX22_fits 14 = .ok (.iconst 1, 1) := by decide +kernel
theorem dX22_fits_15 : decode cX22_fits 15 = .ok (.ireturn, 1) := by decide +kernel
theorem dX22_fits_16 : decode cX22_fits 16 = .ok (.iload 5, 2) := by decide +kernel
theorem dX22_fits_18 : decode cX22_fits 18 = .ok (.bipush (-2), 2) := by decide +kernel
theorem dX22_fits_20 : decode cX22_fits 20 = .ok (.if_icmp .ne 27, 3) := by decide +kernel
theorem dX22_fits_23 : decode cX22_fits 23 = .ok (.lload_n 3, 1) := by decide +kernel
theorem dX22_fits_24 : decode cX22_fits 24 = .ok (.invokestatic 59, 3) := by decide +kernel
theorem dX22_fits_27 : decode cX22_fits 27 = .ok (.ifCond .eq 18, 3) := by decide +kernel
theorem dX22_fits_30 : decode cX22_fits 30 = .ok (.lload_n 3, 1) := by decide +kernel
theorem dX22_fits_31 : decode cX22_fits 31 = .ok (.l2i, 1) := by decide +kernel
theorem dX22_fits_32 : decode cX22_fits 32 = .ok (.aload_n 0, 1) := by decide +kernel
theorem dX22_fits_33 : decode cX22_fits 33 = .ok (.getfield 19, 3) := by decide +kernel
theorem dX22_fits_36 : decode cX22_fits 36 = .ok (.iload_n 2, 1) := by decide +kernel
theorem dX22_fits_37 : decode cX22_fits 37 = .ok (.iaload, 1) := by decide +kernel
theorem dX22_fits_38 : decode cX22_fits 38 = .ok (.if_icmp .ne 7, 3) := by decide +kernel
theorem dX22_fits_41 : decode cX22_fits 41 = .ok (.iconst 1, 1) := by decide +kernel
theorem dX22_fits_42 : decode cX22_fits 42 = .ok (.goto 4, 3) := by decide +kernel
theorem dX22_fits_45 : decode cX22_fits 45 = .ok (.iconst 0, 1) := by decide +kernel
theorem dX22_fits_46 : decode cX22_fits 46 = .ok (.ireturn, 1) := by decide +kernel
theorem dX22_fits_47 : decode cX22_fits 47 = .ok (.lload_n 3, 1) := by decide +kernel
theorem dX22_fits_48 : decode cX22_fits 48 = .ok (.ldc2_w 63, 3) := by decide +kernel
theorem dX22_fits_51 : decode cX22_fits 51 = .ok (.invokestatic 65, 3) := by decide +kernel
theorem dX22_fits_54 : decode cX22_fits 54 = .ok (.ifCond .eq 18, 3) := by decide +kernel
theorem dX22_fits_57 : decode cX22_fits 57 = .ok (.lload_n 3, 1) := by decide +kernel
theorem dX22_fits_58 : decode cX22_fits 58 = .ok (.l2i, 1) := by decide +kernel
theorem dX22_fits_59 : decode cX22_fits 59 = .ok (.iload 5, 2) := by decide +kernel
theorem dX22_fits_61 : decode cX22_fits 61 = .ok (.if_icmp .ne 7, 3) := by decide +kernel
theorem dX22_fits_64 : decode cX22_fits 64 = .ok (.iconst 1, 1) := by decide +kernel
theorem dX22_fits_65 : decode cX22_fits 65 = .ok (.goto 32, 3) := by decide +kernel
theorem dX22_fits_68 : decode cX22_fits 68 = .ok (.iconst 0, 1) := by decide +kernel
theorem dX22_fits_69 : decode cX22_fits 69 = .ok (.goto 28, 3) := by decide +kernel
theorem dX22_fits_72 : decode cX22_fits 72 = .ok (.lload_n 3, 1) := by decide +kernel
theorem dX22_fits_73 : decode cX22_fits 73 = .ok (.ldc2_w 69, 3) := by decide +kernel
theorem dX22_fits_76 : decode cX22_fits 76 = .ok (.invokestatic 65, 3) := by decide +kernel
theorem dX22_fits_79 : decode cX22_fits 79 = .ok (.ifCond .eq 17, 3) := by decide +kernel
theorem dX22_fits_82 : decode cX22_fits 82 = .ok (.aload_n 1, 1) := by decide +kernel
theorem dX22_fits_83 : decode cX22_fits 83 = .ok (.lload_n 3, 1) := by decide +kernel
theorem dX22_fits_84 : decode cX22_fits 84 = .ok (.invokevirtual 71, 3) := by decide +kernel
theorem dX22_fits_87 : decode cX22_fits 87 = .ok (.iload 5, 2) := by decide +kernel
theorem dX22_fits_89 : decode cX22_fits 89 = .ok (.if_icmp .ne 7, 3) := by decide +kernel
theorem dX22_fits_92 : decode cX22_fits 92 = .ok (.iconst 1, 1) := by decide +kernel
theorem dX22_fits_93 : decode cX22_fits 93 = .ok (.goto 4, 3) := by decide +kernel
theorem dX22_fits_96 : decode cX22_fits 96 = .ok (.iconst 0, 1) := by decide +kernel
theorem dX22_fits_97 : decode cX22_fits 97 = .ok (.ireturn, 1) := by decide +kernel
theorem mw_X22_fits : MW yX22_fits (Cond.code yX22_fits cX22_fits 6 (Option.some Jvm.ClassFile.FieldType.boolean)) cX22_fits 6 (Option.some Jvm.ClassFile.FieldType.boolean) 3 := ⟨rfl, ⟨(lw_all_tbl q2353), rfl, (lw_all_tbl q202)⟩, rfl, ⟨by decide, by decide⟩, by decide +kernel⟩
noncomputable def c_X22_fits (l0 : Int) (l1 : Int) (l2 : Int) (l3 : Int) : Mo CH Int :=
  bnd (gf [122] 6 l0) fun v1 =>
  bnd (ald 0 v1 l2) fun v2 =>
  if ¬ v2 = (-1) then
    if ¬ v2 = (-2) then
      bnd (c_X1_isSort l3 4294967296) fun v3 =>
      if v3 = 0 then
        bnd (c_X1_isSort l3 12884901888) fun v4 =>
        if v4 = 0 then
          pr 0
        else
          bnd (isk 103 l1) fun _ =>
          bnd (c_X3_constructorOf l1 l3) fun v5 =>
          if ¬ v5 = v2 then
            pr 0
          else
            pr 1
      else
        if ¬ (l2i l3) = v2 then
          pr 0
        else
          pr 1
    else
      bnd (c_X1_isInt l3) fun v6 =>
      if v6 = 0 then
        pr 0
      else
        bnd (gf [122] 7 l0) fun v7 =>
        bnd (ald 0 v7 l2) fun v8 =>
        if ¬ (l2i l3) = v8 then
          pr 0
        else
          pr 1
  else
    pr 1
theorem sc_X22_fits (g : gC) (d : Nat) (ts : TS) (l0 : Int) (l1 : Int) (l2 : Int) (l3 : Int) (hl2 : R32 l2) (hl3 : R64 l3) : SF g yX22_fits (Cond.code yX22_fits cX22_fits 6 (Option.some Jvm.ClassFile.FieldType.boolean)) (Option.some Jvm.ClassFile.FieldType.boolean) (d + 1) [vA g l0, vA g l1, vI l2, vJ l3] (fun h => (h, ts)) (c_X22_fits l0 l1 l2 l3) := by
  refine SF.of (lv := [(0, vA g l0), (1, vA g l1), (2, vI l2), (3, vJ l3)]) (by decide) (wt_A (wt_A (wt_I (wt_J wt_0)))) rfl (by simp only [la_A, la_I, la_J, la_0]) (fun Γ hg hnm o => ?_)
  subst hg
  have o : Ok Γ "LazyForge$Case" cX22_fits 6 (Option.some Jvm.ClassFile.FieldType.boolean) (d + 1) := o
  unfold c_X22_fits
  refine s_aload_n o dX22_fits_0 rfl 0 rfl ?_
  refine r_getf (vA (mg Γ)) rfl o cf_X22_patterns (Or.inl (lw_all_tbl q1496)) dX22_fits_1 (fun v1 hv1 => ?_)
  refine s_iload_n o dX22_fits_4 rfl 2 rfl ?_
  refine r_iald o hl2 dX22_fits_5 (fun v2 hv2 => ?_)
  refine r_istore o dX22_fits_6 rfl ⟨(Nat.ne_of_beq_eq_false rfl), (fun _ => (vA_cat (mg Γ) l0)), ⟨(Nat.ne_of_beq_eq_false rfl), (fun _ => (vA_cat (mg Γ) l1)), ⟨(Nat.ne_of_beq_eq_false rfl), (fun _ => rfl), ⟨(Nat.ne_of_beq_eq_false rfl), (fun e => absurd e (Nat.ne_of_beq_eq_false rfl)), trivial⟩⟩⟩⟩ ?_
  refine s_iload o dX22_fits_8 0 rfl ?_
  refine s_iconst o dX22_fits_10 ?_
  refine s_icmp_ne (tgt := 16) o dX22_fits_11 (by decide) hv2 (r32 rfl) ?_ ?_
  · refine s_iload o dX22_fits_16 0 rfl ?_
    refine s_bipush o dX22_fits_18 rfl ?_
    refine s_icmp_ne (tgt := 47) o dX22_fits_20 (by decide) hv2 (r32 rfl) ?_ ?_
    · refine s_lload_n o dX22_fits_47 rfl 4 rfl ?_
      refine s_ldc2 (n := 4294967296) o dX22_fits_48 (lw_all_tbl q2355) rfl ?_
      refine s_cs (d := d + 0) (As := [vJ l3, vJ 4294967296]) (st := []) o (sc_X1_isSort (mg Γ) d ts l3 4294967296 hl3 (r64 rfl)) mw_X1_isSort rfl (Or.inr ⟨_, q2356⟩) (lw_all_tbl q2184) wt_0 rfl dX22_fits_51 rfl (rs := fun r => [vI r]) (fun _ => rfl) (fun v3 hv3 => ?_)
      refine s_if_eq (tgt := 72) o dX22_fits_54 (by decide) (rZ (hv3 _ rfl)) ?_ ?_
      · refine s_lload_n o dX22_fits_72 rfl 4 rfl ?_
        refine s_ldc2 (n := 12884901888) o dX22_fits_73 (lw_all_tbl q2357) rfl ?_
        refine s_cs (d := d + 0) (As := [vJ l3, vJ 12884901888]) (st := []) o (sc_X1_isSort (mg Γ) d ts l3 12884901888 hl3 (r64 rfl)) mw_X1_isSort rfl (Or.inr ⟨_, q2356⟩) (lw_all_tbl q2184) wt_0 rfl dX22_fits_76 rfl (rs := fun r => [vI r]) (fun _ => rfl) (fun v4 hv4 => ?_)
        refine s_if_eq (tgt := 96) o dX22_fits_79 (by decide) (rZ (hv4 _ rfl)) ?_ ?_
        · refine s_iconst o dX22_fits_96 ?_
          exact s_iret o rfl i_boolean (Or.inl rfl) dX22_fits_97 (fun _ hh => hh)
        · refine s_aload_n o dX22_fits_82 rfl 2 rfl ?_
          refine s_lload_n o dX22_fits_83 rfl 4 rfl ?_
          refine s_cvC (d := d + 0) (As := [vJ l3]) (st := []) (c := 3) o (sc_X3_constructorOf (mg Γ) d ts l1 l3 hl3) mw_X3_constructorOf rfl (Or.inl (lw_all_tbl q2358)) rfl (lw_all_tbl q2360) (lw_all_tbl q2359) wt_0 rfl dX22_fits_84 rfl (rs := fun r => [vI r]) (fun _ => rfl) (fun v5 hv5 => ?_)
          refine s_iload o dX22_fits_87 0 rfl ?_
          refine s_icmp_ne (tgt := 96) o dX22_fits_89 (by decide) (hv5 _ rfl) hv2 ?_ ?_
          · refine s_iconst o dX22_fits_96 ?_
            exact s_iret o rfl i_boolean (Or.inl rfl) dX22_fits_97 (fun _ hh => hh)
          · refine s_iconst o dX22_fits_92 ?_
            refine s_goto (tgt := 97) o dX22_fits_93 (by decide) ?_
            exact s_iret o rfl i_boolean (Or.inr rfl) dX22_fits_97 (fun _ hh => hh)
      · refine s_lload_n o dX22_fits_57 rfl 4 rfl ?_
        refine s_l2i o dX22_fits_58 ?_
        refine s_iload o dX22_fits_59 0 rfl ?_
        refine s_icmp_ne (tgt := 68) o dX22_fits_61 (by decide) (l2i_R _) hv2 ?_ ?_
        · refine s_iconst o dX22_fits_68 ?_
          refine s_goto (tgt := 97) o dX22_fits_69 (by decide) ?_
          exact s_iret o rfl i_boolean (Or.inl rfl) dX22_fits_97 (fun _ hh => hh)
        · refine s_iconst o dX22_fits_64 ?_
          refine s_goto (tgt := 97) o dX22_fits_65 (by decide) ?_
          exact s_iret o rfl i_boolean (Or.inr rfl) dX22_fits_97 (fun _ hh => hh)
    · refine s_lload_n o dX22_fits_23 rfl 4 rfl ?_
      refine s_cs (d := d + 0) (As := [vJ l3]) (st := []) o (sc_X1_isInt (mg Γ) d ts l3 hl3) mw_X1_isInt rfl (Or.inr ⟨_, q2354⟩) (lw_all_tbl q2007) wt_0 rfl dX22_fits_24 rfl (rs := fun r => [vI r]) (fun _ => rfl) (fun v6 hv6 => ?_)
      refine s_if_eq (tgt := 45) o dX22_fits_27 (by decide) (rZ (hv6 _ rfl)) ?_ ?_
      · refine s_iconst o dX22_fits_45 ?_
        exact s_iret o rfl i_boolean (Or.inl rfl) dX22_fits_46 (fun _ hh => hh)
      · refine s_lload_n o dX22_fits_30 rfl 4 rfl ?_
        refine s_l2i o dX22_fits_31 ?_
        refine s_aload_n o dX22_fits_32 rfl 1 rfl ?_
        refine r_getf (vA (mg Γ)) rfl o cf_X22_numbers (Or.inl (lw_all_tbl q1497)) dX22_fits_33 (fun v7 hv7 => ?_)
        refine s_iload_n o dX22_fits_36 rfl 3 rfl ?_
        refine r_iald o hl2 dX22_fits_37 (fun v8 hv8 => ?_)
        refine s_icmp_ne (tgt := 45) o dX22_fits_38 (by decide) (l2i_R _) hv8 ?_ ?_
        · refine s_iconst o dX22_fits_45 ?_
          exact s_iret o rfl i_boolean (Or.inl rfl) dX22_fits_46 (fun _ hh => hh)
        · refine s_iconst o dX22_fits_41 ?_
          refine s_goto (tgt := 46) o dX22_fits_42 (by decide) ?_
          exact s_iret o rfl i_boolean (Or.inr rfl) dX22_fits_46 (fun _ hh => hh)
  · refine s_iconst o dX22_fits_14 ?_
    exact s_iret o rfl i_boolean (Or.inr rfl) dX22_fits_15 (fun _ hh => hh)
theorem dX22_step_0 : decode cX22_step 0 = .ok (.iload_n 2, 1) := by decide +kernel
theorem dX22_step_1 : decode cX22_step 1 = .ok (.ifCond .ne 18, 3) := by decide +kernel
theorem dX22_step_4 : decode cX22_step 4 = .ok (.aload_n 1, 1) := by decide +kernel
theorem dX22_step_5 : decode cX22_step 5 = .ok (.aload_n 0, 1) := by decide +kernel
theorem dX22_step_6 : decode cX22_step 6 = .ok (.iconst 1, 1) := by decide +kernel
theorem dX22_step_7 : decode cX22_step 7 = .ok (.invokevirtual 75, 3) := by decide +kernel
theorem dX22_step_10 : decode cX22_step 10 = .ok (.aload_n 1, 1) := by decide +kernel
theorem dX22_step_11 : decode cX22_step 11 = .ok (.aload_n 0, 1) := by decide +kernel
theorem dX22_step_12 : decode cX22_step 12 = .ok (.getfield 9, 3) := by decide +kernel
theorem dX22_step_15 : decode cX22_step 15 = .ok (.invokevirtual 79, 3) := by decide +kernel
theorem dX22_step_18 : decode cX22_step 18 = .ok (.return_, 1) := by decide +kernel
theorem dX22_step_19 : decode cX22_step 19 = .ok (.aload_n 1, 1) := by decide +kernel
theorem dX22_step_20 : decode cX22_step 20 = .ok (.invokevirtual 82, 3) := by decide +kernel
theorem dX22_step_23 : decode cX22_step 23 = .ok (.lstore_n 3, 1) := by decide +kernel
theorem dX22_step_24 : decode cX22_step 24 = .ok (.iconst 0, 1) := by decide +kernel
theorem dX22_step_25 : decode cX22_step 25 = .ok (.istore 5, 2) := by decide +kernel
theorem dX22_step_27 : decode cX22_step 27 = .ok (.iload 5, 2) := by decide +kernel
theorem dX22_step_29 : decode cX22_step 29 = .ok (.aload_n 0, 1) := by decide +kernel
theorem dX22_step_30 : decode cX22_step 30 = .ok (.getfield 26, 3) := by decide +kernel
theorem dX22_step_33 : decode cX22_step 33 = .ok (.arraylength, 1) := by decide +kernel
theorem dX22_step_34 : decode cX22_step 34 = .ok (.if_icmp .ge 20, 3) := by decide +kernel
theorem dX22_step_37 : decode cX22_step 37 = .ok (.aload_n 0, 1) := by decide +kernel
theorem dX22_step_38 : decode cX22_step 38 = .ok (.aload_n 1, 1) := by decide +kernel
theorem dX22_step_39 : decode cX22_step 39 = .ok (.iload 5, 2) := by decide +kernel
theorem dX22_step_41 : decode cX22_step 41 = .ok (.lload_n 3, 1) := by decide +kernel
theorem dX22_step_42 : decode cX22_step 42 = .ok (.invokevirtual 86, 3) := by decide +kernel
theorem dX22_step_45 : decode cX22_step 45 = .ok (.ifCond .ne 9, 3) := by decide +kernel
theorem dX22_step_48 : decode cX22_step 48 = .ok (.iinc 5 1, 3) := by decide +kernel
theorem dX22_step_51 : decode cX22_step 51 = .ok (.goto (-24), 3) := by decide +kernel
theorem dX22_step_54 : decode cX22_step 54 = .ok (.iload 5, 2) := by decide +kernel
theorem dX22_step_56 : decode cX22_step 56 = .ok (.aload_n 0, 1) := by decide +kernel
theorem dX22_step_57 : decode cX22_step 57 = .ok (.getfield 26, 3) := by decide +kernel
theorem dX22_step_60 : decode cX22_step 60 = .ok (.arraylength, 1) := by decide +kernel
theorem dX22_step_61 : decode cX22_step 61 = .ok (.if_icmp .ne 9, 3) := by decide +kernel
theorem dX22_step_64 : decode cX22_step 64 = .ok (.aload_n 1, 1) := by decide +kernel
theorem dX22_step_65 : decode cX22_step 65 = .ok (.iconst 1, 1) := by decide +kernel
theorem dX22_step_66 : decode cX22_step 66 = .ok (.invokevirtual 90, 3) := by decide +kernel
theorem dX22_step_69 : decode cX22_step 69 = .ok (.return_, 1) := by decide +kernel
theorem dX22_step_70 : decode cX22_step 70 = .ok (.iconst 0, 1) := by decide +kernel
theorem dX22_step_71 : decode cX22_step 71 = .ok (.istore 6, 2) := by decide +kernel
theorem dX22_step_73 : decode cX22_step 73 = .ok (.iload 6, 2) := by decide +kernel
theorem dX22_step_75 : decode cX22_step 75 = .ok (.aload_n 0, 1) := by decide +kernel
theorem dX22_step_76 : decode cX22_step 76 = .ok (.getfield 22, 3) := by decide +kernel
theorem dX22_step_79 : decode cX22_step 79 = .ok (.iload 5, 2) := by decide +kernel
theorem dX22_step_81 : decode cX22_step 81 = .ok (.aaload, 1) := by decide +kernel
theorem dX22_step_82 : decode cX22_step 82 = .ok (.arraylength, 1) := by decide +kernel
theorem dX22_step_83 : decode cX22_step 83 = .ok (.if_icmp .ge 33, 3) := by decide +kernel
theorem dX22_step_86 : decode cX22_step 86 = .ok (.aload_n 1, 1) := by decide +kernel
theorem dX22_step_87 : decode cX22_step 87 = .ok (.aload_n 0, 1) := by decide +kernel
theorem dX22_step_88 : decode cX22_step 88 = .ok (.getfield 22, 3) := by decide +kernel
theorem dX22_step_91 : decode cX22_step 91 = .ok (.iload 5, 2) := by decide +kernel
theorem dX22_step_93 : decode cX22_step 93 = .ok (.aaload, 1) := by decide +kernel
theorem dX22_step_94 : decode cX22_step 94 = .ok (.iload 6, 2) := by decide +kernel
theorem dX22_step_96 : decode cX22_step 96 = .ok (.aaload, 1) := by decide +kernel
theorem dX22_step_97 : decode cX22_step 97 = .ok (.getfield 42, 3) := by decide +kernel
theorem dX22_step_100 : decode cX22_step 100 = .ok (.aload_n 1, 1) := by decide +kernel
theorem dX22_step_101 : decode cX22_step 101 = .ok (.lload_n 3, 1) := by decide +kernel
theorem dX22_step_102 : decode cX22_step 102 = .ok (.iload 6, 2) := by decide +kernel
theorem dX22_step_104 : decode cX22_step 104 = .ok (.invokevirtual 94, 3) := by decide +kernel
theorem dX22_step_107 : decode cX22_step 107 = .ok (.invokevirtual 98, 3) := by decide +kernel
theorem dX22_step_110 : decode cX22_step 110 = .ok (.iinc 6 1, 3) := by decide +kernel
theorem dX22_step_113 : decode cX22_step 113 = .ok (.goto (-40), 3) := by decide +kernel
theorem dX22_step_116 : decode cX22_step 116 = .ok (.aload_n 1, 1) := by decide +kernel
theorem dX22_step_117 : decode cX22_step 117 = .ok (.aload_n 0, 1) := by decide +kernel
theorem dX22_step_118 : decode cX22_step 118 = .ok (.getfield 26, 3) := by decide +kernel
theorem dX22_step_121 : decode cX22_step 121 = .ok (.iload 5, 2) := by decide +kernel
theorem dX22_step_123 : decode cX22_step 123 = .ok (.aaload, 1) := by decide +kernel
theorem dX22_step_124 : decode cX22_step 124 = .ok (.invokevirtual 79, 3) := by decide +kernel
theorem dX22_step_127 : decode cX22_step 127 = .ok (.return_, 1) := by decide +kernel
theorem mw_X22_step : MW yX22_step (Cond.code yX22_step cX22_step 7 (Option.none : Option Jvm.ClassFile.FieldType)) cX22_step 7 (Option.none : Option Jvm.ClassFile.FieldType) 2 := ⟨rfl, ⟨(lw_all_tbl q2346), rfl, (lw_all_tbl q202)⟩, rfl, ⟨by decide, by decide⟩, by decide +kernel⟩
abbrev okc_X22_step_27 (x : Int × Int × Int × Int) : Prop := R64 x.2.2.1 ∧ R32 x.2.2.2
abbrev lvc_X22_step_27 (Γ : Gm) (x : Int × Int × Int × Int) : List (Nat × Value) := [(0, vA (mg Γ) x.1), (1, vA (mg Γ) x.2.1), (3, vJ x.2.2.1), (5, vI x.2.2.2)]
noncomputable def c_X22_step_27b {A : Type} (k_54 : Int → Int → Int → Int → Mo CH A) (l0 : Int) (l1 : Int) (l3 : Int) (l5 : Int) : Mo CH ((Int × Int × Int × Int) ⊕ A) :=
  bnd (gf [122] 9 l0) fun v1 =>
  bnd (aln v1) fun v2 =>
  if v2 ≤ l5 then
    lo (k_54 l0 l1 l3 l5)
  else
    bnd (isk 122 l0) fun _ =>
    bnd (c_X22_fits l0 l1 l5 l3) fun v3 =>
    if ¬ v3 = 0 then
      lo (k_54 l0 l1 l3 l5)
    else
      pr (.inl (l0, l1, l3, (w32 (l5 + 1))))
theorem sc_X22_step_27b {Γ : Gm} {ts : TS} {d : Nat} (o : Ok Γ "LazyForge$Case" cX22_step 7 (Option.none : Option Jvm.ClassFile.FieldType) (d + 3)) {A : Type} {K : A → CH → Prop} (k_54 : Int → Int → Int → Int → Mo CH A) (hk_54 : ∀ (l0 : Int) (l1 : Int) (l3 : Int) (l5 : Int), R64 l3 → R32 l5 → Sx Γ (fun h => (h, ts)) K 54 [(0, vA (mg Γ) l0), (1, vA (mg Γ) l1), (3, vJ l3), (5, vI l5)] [] (k_54 l0 l1 l3 l5)) (l0 : Int) (l1 : Int) (l3 : Int) (l5 : Int) (hl3 : R64 l3) (hl5 : R32 l5) : Sx Γ (fun h => (h, ts)) (KL Γ (fun h => (h, ts)) okc_X22_step_27 K 27 (lvc_X22_step_27 Γ) []) 27 [(0, vA (mg Γ) l0), (1, vA (mg Γ) l1), (3, vJ l3), (5, vI l5)] [] (c_X22_step_27b k_54 l0 l1 l3 l5) := by
  unfold c_X22_step_27b
  refine s_iload o dX22_step_27 3 rfl ?_
  refine s_aload_n o dX22_step_29 rfl 0 rfl ?_
  refine r_getf (vA (mg Γ)) rfl o cf_X22_parts0 (Or.inl (lw_all_tbl q1499)) dX22_step_30 (fun v1 hv1 => ?_)
  refine s_alen o dX22_step_33 (fun v2 hv2 => ?_)
  refine s_icmp_ge (tgt := 54) o dX22_step_34 (by decide) hl5 (rN hv2) ?_ ?_
  · exact s_lo (hk_54 l0 l1 l3 l5 hl3 hl5)
  · refine s_aload_n o dX22_step_37 rfl 0 rfl ?_
    refine s_aload_n o dX22_step_38 rfl 1 rfl ?_
    refine s_iload o dX22_step_39 3 rfl ?_
    refine s_lload_n o dX22_step_41 rfl 2 rfl ?_
    refine s_cvC (d := d + 2) (As := [vA (mg Γ) l1, vI l5, vJ l3]) (st := []) (c := 22) o (sc_X22_fits (mg Γ) (d + 1) ts l0 l1 l5 l3 hl5 hl3) mw_X22_fits rfl (Or.inl (lw_all_tbl q2350)) rfl (lw_all_tbl qs52) (lw_all_tbl q2352) wt_0 rfl dX22_step_42 rfl (rs := fun r => [vI r]) (fun _ => rfl) (fun v3 hv3 => ?_)
    refine s_if_ne (tgt := 54) o dX22_step_45 (by decide) (rZ (hv3 _ rfl)) ?_ ?_
    · exact s_lo (hk_54 l0 l1 l3 l5 hl3 hl5)
    · refine r_iinc (j := 3) o dX22_step_48 rfl rfl [(0, vA (mg Γ) l0), (1, vA (mg Γ) l1), (3, vJ l3)] [0, 1, 2] rfl ⟨(Nat.ne_of_beq_eq_false rfl), (fun _ => (vA_cat (mg Γ) l0)), ⟨(Nat.ne_of_beq_eq_false rfl), (fun _ => (vA_cat (mg Γ) l1)), ⟨(Nat.ne_of_beq_eq_false rfl), (fun e => absurd e (Nat.ne_of_beq_eq_false rfl)), trivial⟩⟩⟩ ?_
      refine s_goto (tgt := 27) o dX22_step_51 (by decide) ?_
      refine r_to [(0, vA (mg Γ) l0), (1, vA (mg Γ) l1), (3, vJ l3), (5, vI (w32 (l5 + 1)))] [1, 2, 3, 0] rfl ?_
      exact s_back (⟨hl3, (w32_R _)⟩) rfl
noncomputable def c_X22_step_27 {A : Type} (k_54 : Int → Int → Int → Int → Mo CH A) (l0 : Int) (l1 : Int) (l3 : Int) (l5 : Int) : Mo CH A := Loop (fun x => c_X22_step_27b k_54 x.1 x.2.1 x.2.2.1 x.2.2.2) (l0, l1, l3, l5)
theorem sc_X22_step_27 {Γ : Gm} {ts : TS} {d : Nat} (o : Ok Γ "LazyForge$Case" cX22_step 7 (Option.none : Option Jvm.ClassFile.FieldType) (d + 3)) {A : Type} {K : A → CH → Prop} (k_54 : Int → Int → Int → Int → Mo CH A) (hk_54 : ∀ (l0 : Int) (l1 : Int) (l3 : Int) (l5 : Int), R64 l3 → R32 l5 → Sx Γ (fun h => (h, ts)) K 54 [(0, vA (mg Γ) l0), (1, vA (mg Γ) l1), (3, vJ l3), (5, vI l5)] [] (k_54 l0 l1 l3 l5)) (l0 : Int) (l1 : Int) (l3 : Int) (l5 : Int) (hl3 : R64 l3) (hl5 : R32 l5) : Sx Γ (fun h => (h, ts)) K 27 [(0, vA (mg Γ) l0), (1, vA (mg Γ) l1), (3, vJ l3), (5, vI l5)] [] (c_X22_step_27 k_54 l0 l1 l3 l5) :=
  s_loop okc_X22_step_27 (lvc_X22_step_27 Γ) (fun x hx => sc_X22_step_27b o k_54 hk_54 x.1 x.2.1 x.2.2.1 x.2.2.2 hx.1 hx.2) (x := (l0, l1, l3, l5)) ⟨hl3, hl5⟩
abbrev okc_X22_step_73 (x : Int × Int × Int × Int × Int) : Prop := R64 x.2.2.1 ∧ R32 x.2.2.2.1 ∧ R32 x.2.2.2.2
abbrev lvc_X22_step_73 (Γ : Gm) (x : Int × Int × Int × Int × Int) : List (Nat × Value) := [(0, vA (mg Γ) x.1), (1, vA (mg Γ) x.2.1), (3, vJ x.2.2.1), (5, vI x.2.2.2.1), (6, vI x.2.2.2.2)]
noncomputable def c_X22_step_73b {A : Type} (k_116 : Int → Int → Int → Mo CH A) (l0 : Int) (l1 : Int) (l3 : Int) (l5 : Int) (l6 : Int) : Mo CH ((Int × Int × Int × Int × Int) ⊕ A) :=
  bnd (gf [122] 8 l0) fun v1 =>
  bnd (ald 9 v1 l5) fun v2 =>
  bnd (aln v2) fun v3 =>
  if v3 ≤ l6 then
    lo (k_116 l0 l1 l5)
  else
    bnd (gf [122] 8 l0) fun v4 =>
    bnd (ald 9 v4 l5) fun v5 =>
    bnd (ald 7 v5 l6) fun v6 =>
    bnd (gf [117] 1 v6) fun v7 =>
    bnd (isk 103 l1) fun _ =>
    bnd (c_X3_fieldOf l1 l3 l6) fun v8 =>
    bnd (isk 103 l1) fun _ =>
    bnd (c_X3_set l1 v7 v8) fun _ =>
    pr (.inl (l0, l1, l3, l5, (w32 (l6 + 1))))
theorem sc_X22_step_73b {Γ : Gm} {ts : TS} {d : Nat} (o : Ok Γ "LazyForge$Case" cX22_step 7 (Option.none : Option Jvm.ClassFile.FieldType) (d + 3)) {A : Type} {K : A → CH → Prop} (k_116 : Int → Int → Int → Mo CH A) (hk_116 : ∀ (l0 : Int) (l1 : Int) (l5 : Int), R32 l5 → Sx Γ (fun h => (h, ts)) K 116 [(0, vA (mg Γ) l0), (1, vA (mg Γ) l1), (5, vI l5)] [] (k_116 l0 l1 l5)) (l0 : Int) (l1 : Int) (l3 : Int) (l5 : Int) (l6 : Int) (hl3 : R64 l3) (hl5 : R32 l5) (hl6 : R32 l6) : Sx Γ (fun h => (h, ts)) (KL Γ (fun h => (h, ts)) okc_X22_step_73 K 73 (lvc_X22_step_73 Γ) []) 73 [(0, vA (mg Γ) l0), (1, vA (mg Γ) l1), (3, vJ l3), (5, vI l5), (6, vI l6)] [] (c_X22_step_73b k_116 l0 l1 l3 l5 l6) := by
  unfold c_X22_step_73b
  refine s_iload o dX22_step_73 4 rfl ?_
  refine s_aload_n o dX22_step_75 rfl 0 rfl ?_
  refine r_getf (vA (mg Γ)) rfl o cf_X22_bound (Or.inl (lw_all_tbl q1498)) dX22_step_76 (fun v1 hv1 => ?_)
  refine s_iload o dX22_step_79 3 rfl ?_
  refine r_aald (kd := 9) o (by decide) rfl hl5 dX22_step_81 (fun v2 => ?_)
  refine s_alen o dX22_step_82 (fun v3 hv3 => ?_)
  refine s_icmp_ge (tgt := 116) o dX22_step_83 (by decide) hl6 (rN hv3) ?_ ?_
  · refine r_to [(0, vA (mg Γ) l0), (1, vA (mg Γ) l1), (5, vI l5)] [0, 1, 3] rfl ?_
    exact s_lo (hk_116 l0 l1 l5 hl5)
  · refine s_aload_n o dX22_step_86 rfl 1 rfl ?_
    refine s_aload_n o dX22_step_87 rfl 0 rfl ?_
    refine r_getf (vA (mg Γ)) rfl o cf_X22_bound (Or.inl (lw_all_tbl q1498)) dX22_step_88 (fun v4 hv4 => ?_)
    refine s_iload o dX22_step_91 3 rfl ?_
    refine r_aald (kd := 9) o (by decide) rfl hl5 dX22_step_93 (fun v5 => ?_)
    refine s_iload o dX22_step_94 4 rfl ?_
    refine r_aald (kd := 7) o (by decide) rfl hl6 dX22_step_96 (fun v6 => ?_)
    refine r_getf vI rfl o cf_X17_number (Or.inr (Or.inl ⟨_, q1291⟩)) dX22_step_97 (fun v7 hv7 => ?_)
    refine s_aload_n o dX22_step_100 rfl 1 rfl ?_
    refine s_lload_n o dX22_step_101 rfl 2 rfl ?_
    refine s_iload o dX22_step_102 4 rfl ?_
    refine s_cvC (d := d + 2) (As := [vJ l3, vI l6]) (st := [vI v7, vA (mg Γ) l1]) (c := 3) o (sc_X3_fieldOf (mg Γ) (d + 2) ts l1 l3 l6 hl3 hl6) mw_X3_fieldOf rfl (Or.inl (lw_all_tbl q2363)) rfl (lw_all_tbl q2365) (lw_all_tbl q2364) (wt_I (wt_A wt_0)) rfl dX22_step_104 rfl (rs := fun r => [vJ r, vI v7, vA (mg Γ) l1]) (fun _ => rfl) (fun v8 hv8 => ?_)
    refine s_cvC (d := d + 2) (As := [vI v7, vJ v8]) (st := []) (c := 3) o (sc_X3_set (mg Γ) (d + 2) ts l1 v7 v8 hv7 (hv8 _ rfl)) mw_X3_set rfl (Or.inl (lw_all_tbl q2367)) rfl (lw_all_tbl q2206) (lw_all_tbl q2205) wt_0 rfl dX22_step_107 rfl (rs := fun _ => []) (fun _ => rfl) (fun _ _ => ?_)
    refine r_iinc (j := 4) o dX22_step_110 rfl rfl [(0, vA (mg Γ) l0), (1, vA (mg Γ) l1), (3, vJ l3), (5, vI l5)] [0, 1, 2, 3] rfl ⟨(Nat.ne_of_beq_eq_false rfl), (fun _ => (vA_cat (mg Γ) l0)), ⟨(Nat.ne_of_beq_eq_false rfl), (fun _ => (vA_cat (mg Γ) l1)), ⟨(Nat.ne_of_beq_eq_false rfl), (fun e => absurd e (Nat.ne_of_beq_eq_false rfl)), ⟨(Nat.ne_of_beq_eq_false rfl), (fun _ => rfl), trivial⟩⟩⟩⟩ ?_
    refine s_goto (tgt := 73) o dX22_step_113 (by decide) ?_
    refine r_to [(0, vA (mg Γ) l0), (1, vA (mg Γ) l1), (3, vJ l3), (5, vI l5), (6, vI (w32 (l6 + 1)))] [1, 2, 3, 4, 0] rfl ?_
    exact s_back (⟨hl3, hl5, (w32_R _)⟩) rfl
noncomputable def c_X22_step_73 {A : Type} (k_116 : Int → Int → Int → Mo CH A) (l0 : Int) (l1 : Int) (l3 : Int) (l5 : Int) (l6 : Int) : Mo CH A := Loop (fun x => c_X22_step_73b k_116 x.1 x.2.1 x.2.2.1 x.2.2.2.1 x.2.2.2.2) (l0, l1, l3, l5, l6)
theorem sc_X22_step_73 {Γ : Gm} {ts : TS} {d : Nat} (o : Ok Γ "LazyForge$Case" cX22_step 7 (Option.none : Option Jvm.ClassFile.FieldType) (d + 3)) {A : Type} {K : A → CH → Prop} (k_116 : Int → Int → Int → Mo CH A) (hk_116 : ∀ (l0 : Int) (l1 : Int) (l5 : Int), R32 l5 → Sx Γ (fun h => (h, ts)) K 116 [(0, vA (mg Γ) l0), (1, vA (mg Γ) l1), (5, vI l5)] [] (k_116 l0 l1 l5)) (l0 : Int) (l1 : Int) (l3 : Int) (l5 : Int) (l6 : Int) (hl3 : R64 l3) (hl5 : R32 l5) (hl6 : R32 l6) : Sx Γ (fun h => (h, ts)) K 73 [(0, vA (mg Γ) l0), (1, vA (mg Γ) l1), (3, vJ l3), (5, vI l5), (6, vI l6)] [] (c_X22_step_73 k_116 l0 l1 l3 l5 l6) :=
  s_loop okc_X22_step_73 (lvc_X22_step_73 Γ) (fun x hx => sc_X22_step_73b o k_116 hk_116 x.1 x.2.1 x.2.2.1 x.2.2.2.1 x.2.2.2.2 hx.1 hx.2.1 hx.2.2) (x := (l0, l1, l3, l5, l6)) ⟨hl3, hl5, hl6⟩
noncomputable def c_X22_step (l0 : Int) (l1 : Int) (l2 : Int) : Mo CH Int :=
  if ¬ l2 = 0 then
    bnd (isk 103 l1) fun _ =>
    bnd (c_X3_taken l1) fun v1 =>
    c_X22_step_27
      (fun v2 v3 v4 v5 => bnd (gf [122] 9 v2) fun v6 =>
    bnd (aln v6) fun v7 =>
    if ¬ v5 = v7 then
      c_X22_step_73
        (fun v8 v9 v10 => bnd (gf [122] 9 v8) fun v11 =>
      bnd (ald 5 v11 v10) fun v12 =>
      bnd (isk 103 v9) fun _ =>
      bnd (c_X3_work v9 v12) fun _ =>
      pr 0) v2 v3 v4 v5 0
    else
      bnd (isk 103 v3) fun _ =>
      bnd (c_X3_fault v3 1) fun _ =>
      pr 0) l0 l1 v1 0
  else
    bnd (isk 103 l1) fun _ =>
    bnd (c_X3_again l1 l0 1) fun _ =>
    bnd (gf [122] 5 l0) fun v13 =>
    bnd (isk 103 l1) fun _ =>
    bnd (c_X3_work l1 v13) fun _ =>
    pr 0
theorem sc_X22_step (g : gC) (d : Nat) (ts : TS) (l0 : Int) (l1 : Int) (l2 : Int) (hl2 : R32 l2) : SF g yX22_step (Cond.code yX22_step cX22_step 7 (Option.none : Option Jvm.ClassFile.FieldType)) (Option.none : Option Jvm.ClassFile.FieldType) (d + 3) [vA g l0, vA g l1, vI l2] (fun h => (h, ts)) (c_X22_step l0 l1 l2) := by
  refine SF.of (lv := [(0, vA g l0), (1, vA g l1), (2, vI l2)]) (by decide) (wt_A (wt_A (wt_I wt_0))) rfl (by simp only [la_A, la_I, la_J, la_0]) (fun Γ hg hnm o => ?_)
  subst hg
  have o : Ok Γ "LazyForge$Case" cX22_step 7 (Option.none : Option Jvm.ClassFile.FieldType) (d + 3) := o
  unfold c_X22_step
  refine s_iload_n o dX22_step_0 rfl 2 rfl ?_
  refine s_if_ne (tgt := 19) o dX22_step_1 (by decide) hl2 ?_ ?_
  · refine s_aload_n o dX22_step_19 rfl 1 rfl ?_
    refine s_cvC (d := d + 2) (As := []) (st := []) (c := 3) o (sc_X3_taken (mg Γ) (d + 2) ts l1) mw_X3_taken rfl (Or.inl (lw_all_tbl q2349)) rfl (lw_all_tbl q2224) (lw_all_tbl q2223) wt_0 rfl dX22_step_20 rfl (rs := fun r => [vJ r]) (fun _ => rfl) (fun v1 hv1 => ?_)
    refine r_lstore_n o dX22_step_23 rfl rfl ⟨(Nat.ne_of_beq_eq_false rfl), (Nat.ne_of_beq_eq_false rfl), (fun _ => (vA_cat (mg Γ) l0)), ⟨(Nat.ne_of_beq_eq_false rfl), (Nat.ne_of_beq_eq_false rfl), (fun _ => (vA_cat (mg Γ) l1)), ⟨(Nat.ne_of_beq_eq_false rfl), (Nat.ne_of_beq_eq_false rfl), (fun _ => rfl), trivial⟩⟩⟩ ?_
    refine s_iconst o dX22_step_24 ?_
    refine r_istore o dX22_step_25 rfl ⟨(Nat.ne_of_beq_eq_false rfl), (fun e => absurd e (Nat.ne_of_beq_eq_false rfl)), ⟨(Nat.ne_of_beq_eq_false rfl), (fun _ => (vA_cat (mg Γ) l0)), ⟨(Nat.ne_of_beq_eq_false rfl), (fun _ => (vA_cat (mg Γ) l1)), ⟨(Nat.ne_of_beq_eq_false rfl), (fun _ => rfl), trivial⟩⟩⟩⟩ ?_
    refine r_to [(0, vA (mg Γ) l0), (1, vA (mg Γ) l1), (3, vJ v1), (5, vI 0)] [2, 3, 1, 0] rfl ?_
    refine sc_X22_step_27 o _ ?_ l0 l1 v1 0 (hv1 _ rfl) (r32 rfl)
    · intro v2 v3 v4 v5 hv4 hv5
      refine s_iload o dX22_step_54 3 rfl ?_
      refine s_aload_n o dX22_step_56 rfl 0 rfl ?_
      refine r_getf (vA (mg Γ)) rfl o cf_X22_parts0 (Or.inl (lw_all_tbl q1499)) dX22_step_57 (fun v6 hv6 => ?_)
      refine s_alen o dX22_step_60 (fun v7 hv7 => ?_)
      refine s_icmp_ne (tgt := 70) o dX22_step_61 (by decide) hv5 (rN hv7) ?_ ?_
      · refine s_iconst o dX22_step_70 ?_
        refine r_istore o dX22_step_71 rfl ⟨(Nat.ne_of_beq_eq_false rfl), (fun _ => (vA_cat (mg Γ) v2)), ⟨(Nat.ne_of_beq_eq_false rfl), (fun _ => (vA_cat (mg Γ) v3)), ⟨(Nat.ne_of_beq_eq_false rfl), (fun e => absurd e (Nat.ne_of_beq_eq_false rfl)), ⟨(Nat.ne_of_beq_eq_false rfl), (fun _ => rfl), trivial⟩⟩⟩⟩ ?_
        refine r_to [(0, vA (mg Γ) v2), (1, vA (mg Γ) v3), (3, vJ v4), (5, vI v5), (6, vI 0)] [1, 2, 3, 4, 0] rfl ?_
        refine sc_X22_step_73 o _ ?_ v2 v3 v4 v5 0 hv4 hv5 (r32 rfl)
        · intro v8 v9 v10 hv10
          refine s_aload_n o dX22_step_116 rfl 1 rfl ?_
          refine s_aload_n o dX22_step_117 rfl 0 rfl ?_
          refine r_getf (vA (mg Γ)) rfl o cf_X22_parts0 (Or.inl (lw_all_tbl q1499)) dX22_step_118 (fun v11 hv11 => ?_)
          refine s_iload o dX22_step_121 2 rfl ?_
          refine r_aald (kd := 5) o (by decide) rfl hv10 dX22_step_123 (fun v12 => ?_)
          refine s_cvC (d := d + 2) (As := [vA (mg Γ) v12]) (st := []) (c := 3) o (sc_X3_work (mg Γ) d ts v9 v12) mw_X3_work rfl (Or.inl (lw_all_tbl q2348)) rfl (lw_all_tbl q2210) (lw_all_tbl q2209) wt_0 rfl dX22_step_124 rfl (rs := fun _ => []) (fun _ => rfl) (fun _ _ => ?_)
          exact s_vret o rfl dX22_step_127 (fun _ hh => hh)
      · refine s_aload_n o dX22_step_64 rfl 1 rfl ?_
        refine s_iconst o dX22_step_65 ?_
        refine s_cvC (d := d + 2) (As := [vI 1]) (st := []) (c := 3) o (sc_X3_fault (mg Γ) (d + 1) ts v3 1 (r32 rfl)) mw_X3_fault rfl (Or.inl (lw_all_tbl q2362)) rfl (lw_all_tbl q2197) (lw_all_tbl q2196) wt_0 rfl dX22_step_66 rfl (rs := fun _ => []) (fun _ => rfl) (fun _ _ => ?_)
        exact s_vret o rfl dX22_step_69 (fun _ hh => hh)
  · refine s_aload_n o dX22_step_4 rfl 1 rfl ?_
    refine s_aload_n o dX22_step_5 rfl 0 rfl ?_
    refine s_iconst o dX22_step_6 ?_
    refine s_cvC (d := d + 2) (As := [vA (mg Γ) l0, vI 1]) (st := []) (c := 3) o (sc_X3_again (mg Γ) (d + 1) ts l1 l0 1 (r32 rfl)) mw_X3_again rfl (Or.inl (lw_all_tbl q2347)) rfl (lw_all_tbl q2176) (lw_all_tbl q2175) wt_0 rfl dX22_step_7 rfl (rs := fun _ => []) (fun _ => rfl) (fun _ _ => ?_)
    refine s_aload_n o dX22_step_10 rfl 1 rfl ?_
    refine s_aload_n o dX22_step_11 rfl 0 rfl ?_
    refine r_getf (vA (mg Γ)) rfl o cf_X22_of (Or.inl (lw_all_tbl q1495)) dX22_step_12 (fun v13 hv13 => ?_)
    refine s_cvC (d := d + 2) (As := [vA (mg Γ) v13]) (st := []) (c := 3) o (sc_X3_work (mg Γ) d ts l1 v13) mw_X3_work rfl (Or.inl (lw_all_tbl q2348)) rfl (lw_all_tbl q2210) (lw_all_tbl q2209) wt_0 rfl dX22_step_15 rfl (rs := fun _ => []) (fun _ => rfl) (fun _ _ => ?_)
    exact s_vret o rfl dX22_step_18 (fun _ hh => hh)
theorem dX23_step_0 : decode cX23_step 0 = .ok (.iload_n 2, 1) := by decide +kernel
theorem dX23_step_1 : decode cX23_step 1 = .ok (.iconst 2, 1) := by decide +kernel
theorem dX23_step_2 : decode cX23_step 2 = .ok (.if_icmp .ne 12, 3) := by decide +kernel
theorem dX23_step_5 : decode cX23_step 5 = .ok (.aload_n 1, 1) := by decide +kernel
theorem dX23_step_6 : decode cX23_step 6 = .ok (.aload_n 0, 1) := by decide +kernel
theorem dX23_step_7 : decode cX23_step 7 = .ok (.getfield 7, 3) := by decide +kernel
theorem dX23_step_10 : decode cX23_step 10 = .ok (.invokevirtual 44, 3) := by decide +kernel
theorem dX23_step_13 : decode cX23_step 13 = .ok (.return_, 1) := by decide +kernel
theorem dX23_step_14 : decode cX23_step 14 = .ok (.aload_n 1, 1) := by decide +kernel
theorem dX23_step_15 : decode cX23_step 15 = .ok (.aload_n 0, 1) := by decide +kernel
theorem dX23_step_16 : decode cX23_step 16 = .ok (.iload_n 2, 1) := by decide +kernel
theorem dX23_step_17 : decode cX23_step 17 = .ok (.iconst 1, 1) := by decide +kernel
theorem dX23_step_18 : decode cX23_step 18 = .ok (.iadd, 1) := by decide +kernel
theorem dX23_step_19 : decode cX23_step 19 = .ok (.invokevirtual 48, 3) := by decide +kernel
theorem dX23_step_22 : decode cX23_step 22 = .ok (.aload_n 1, 1) := by decide +kernel
theorem dX23_step_23 : decode cX23_step 23 = .ok (.iload_n 2, 1) := by decide +kernel
theorem dX23_step_24 : decode cX23_step 24 = .ok (.ifCond .ne 10, 3) := by decide +kernel
theorem dX23_step_27 : decode cX23_step 27 = .ok (.aload_n 0, 1) := by decide +kernel
theorem dX23_step_28 : decode cX23_step 28 = .ok (.getfield 13, 3) := by decide +kernel
theorem dX23_step_31 : decode cX23_step 31 = .ok (.goto 7, 3) := by decide +kernel
theorem dX23_step_34 : decode cX23_step 34 = .ok (.aload_n 0, 1) := by decide +kernel
theorem dX23_step_35 : decode cX23_step 35 = .ok (.getfield 17, 3) := by decide +kernel
theorem dX23_step_38 : decode cX23_step 38 = .ok (.invokevirtual 52, 3) := by decide +kernel
theorem dX23_step_41 : decode cX23_step 41 = .ok (.return_, 1) := by decide +kernel
theorem mw_X23_step : MW yX23_step (Cond.code yX23_step cX23_step 3 (Option.none : Option Jvm.ClassFile.FieldType)) cX23_step 3 (Option.none : Option Jvm.ClassFile.FieldType) 2 := ⟨rfl, ⟨(lw_all_tbl q2443), rfl, (lw_all_tbl q203)⟩, rfl, ⟨by decide, by decide⟩, by decide +kernel⟩
noncomputable def c_X23_step_38  (k0 : Int) (k1 : Int) : Mo CH Int :=
  bnd (isk 103 k1) fun _ =>
  bnd (c_X3_work k1 k0) fun _ =>
  pr 0
theorem sc_X23_step_38 {Γ : Gm} {ts : TS} {d : Nat} (o : Ok Γ "LazyForge$Sign" cX23_step 3 (Option.none : Option Jvm.ClassFile.FieldType) (d + 4))   (k0 : Int) (k1 : Int) : Sx Γ (fun h => (h, ts)) (fun a s => mt Γ = (0, a, ((s, ts) : Wd))) 38 [] [vA (mg Γ) k0, vA (mg Γ) k1] (c_X23_step_38 k0 k1) := by
  unfold c_X23_step_38
  refine s_cvC (d := d + 3) (As := [vA (mg Γ) k0]) (st := []) (c := 3) o (sc_X3_work (mg Γ) (d + 1) ts k1 k0) mw_X3_work rfl (Or.inl (lw_all_tbl q2454)) rfl (lw_all_tbl q2210) (lw_all_tbl q2209) wt_0 rfl dX23_step_38 rfl (rs := fun _ => []) (fun _ => rfl) (fun _ _ => ?_)
  exact s_vret o rfl dX23_step_41 (fun _ hh => hh)
noncomputable def c_X23_step (l0 : Int) (l1 : Int) (l2 : Int) : Mo CH Int :=
  if ¬ l2 = 2 then
    bnd (isk 103 l1) fun _ =>
    bnd (c_X3_again l1 l0 (w32 (l2 + 1))) fun _ =>
    if ¬ l2 = 0 then
      bnd (gf [123] 7 l0) fun v1 =>
      c_X23_step_38 v1 l1
    else
      bnd (gf [123] 6 l0) fun v2 =>
      c_X23_step_38 v2 l1
  else
    bnd (gf [123] 5 l0) fun v3 =>
    bnd (isk 103 l1) fun _ =>
    bnd (c_X3_reckon l1 v3) fun _ =>
    pr 0
theorem sc_X23_step (g : gC) (d : Nat) (ts : TS) (l0 : Int) (l1 : Int) (l2 : Int) (hl2 : R32 l2) : SF g yX23_step (Cond.code yX23_step cX23_step 3 (Option.none : Option Jvm.ClassFile.FieldType)) (Option.none : Option Jvm.ClassFile.FieldType) (d + 4) [vA g l0, vA g l1, vI l2] (fun h => (h, ts)) (c_X23_step l0 l1 l2) := by
  refine SF.of (lv := [(0, vA g l0), (1, vA g l1), (2, vI l2)]) (by decide) (wt_A (wt_A (wt_I wt_0))) rfl (by simp only [la_A, la_I, la_J, la_0]) (fun Γ hg hnm o => ?_)
  subst hg
  have o : Ok Γ "LazyForge$Sign" cX23_step 3 (Option.none : Option Jvm.ClassFile.FieldType) (d + 4) := o
  unfold c_X23_step
  refine s_iload_n o dX23_step_0 rfl 2 rfl ?_
  refine s_iconst o dX23_step_1 ?_
  refine s_icmp_ne (tgt := 14) o dX23_step_2 (by decide) hl2 (r32 rfl) ?_ ?_
  · refine s_aload_n o dX23_step_14 rfl 1 rfl ?_
    refine s_aload_n o dX23_step_15 rfl 0 rfl ?_
    refine s_iload_n o dX23_step_16 rfl 2 rfl ?_
    refine s_iconst o dX23_step_17 ?_
    refine s_iadd o dX23_step_18 ?_
    refine s_cvC (d := d + 3) (As := [vA (mg Γ) l0, vI (w32 (l2 + 1))]) (st := []) (c := 3) o (sc_X3_again (mg Γ) (d + 2) ts l1 l0 (w32 (l2 + 1)) (w32_R _)) mw_X3_again rfl (Or.inl (lw_all_tbl q2453)) rfl (lw_all_tbl q2176) (lw_all_tbl q2175) wt_0 rfl dX23_step_19 rfl (rs := fun _ => []) (fun _ => rfl) (fun _ _ => ?_)
    refine s_aload_n o dX23_step_22 rfl 1 rfl ?_
    refine s_iload_n o dX23_step_23 rfl 2 rfl ?_
    refine s_if_ne (tgt := 34) o dX23_step_24 (by decide) hl2 ?_ ?_
    · refine s_aload_n o dX23_step_34 rfl 0 rfl ?_
      refine r_getf (vA (mg Γ)) rfl o cf_X23_two (Or.inl (lw_all_tbl q1527)) dX23_step_35 (fun v1 hv1 => ?_)
      refine r_to [] [] rfl ?_
      exact sc_X23_step_38 o v1 l1
    · refine s_aload_n o dX23_step_27 rfl 0 rfl ?_
      refine r_getf (vA (mg Γ)) rfl o cf_X23_one (Or.inl (lw_all_tbl q1526)) dX23_step_28 (fun v2 hv2 => ?_)
      refine s_goto (tgt := 38) o dX23_step_31 (by decide) ?_
      refine r_to [] [] rfl ?_
      exact sc_X23_step_38 o v2 l1
  · refine s_aload_n o dX23_step_5 rfl 1 rfl ?_
    refine s_aload_n o dX23_step_6 rfl 0 rfl ?_
    refine r_getf vI rfl o cf_X23_op (Or.inl (lw_all_tbl q1525)) dX23_step_7 (fun v3 hv3 => ?_)
    refine s_cvC (d := d + 3) (As := [vI v3]) (st := []) (c := 3) o (sc_X3_reckon (mg Γ) d ts l1 v3 hv3) mw_X3_reckon rfl (Or.inl (lw_all_tbl q2444)) rfl (lw_all_tbl q2446) (lw_all_tbl q2445) wt_0 rfl dX23_step_10 rfl (rs := fun _ => []) (fun _ => rfl) (fun _ _ => ?_)
    exact s_vret o rfl dX23_step_13 (fun _ hh => hh)
theorem dX24_step_0 : decode cX24_step 0 = .ok (.aload_n 1, 1) := by decide +kernel
theorem dX24_step_1 : decode cX24_step 1 = .ok (.aload_n 0, 1) := by decide +kernel
theorem dX24_step_2 : decode cX24_step 2 = .ok (.getfield 7, 3) := by decide +kernel
theorem dX24_step_5 : decode cX24_step 5 = .ok (.invokevirtual 13, 3) := by decide +kernel
theorem dX24_step_8 : decode cX24_step 8 = .ok (.return_, 1) := by decide +kernel
theorem mw_X24_step : MW yX24_step (Cond.code yX24_step cX24_step 3 (Option.none : Option Jvm.ClassFile.FieldType)) cX24_step 3 (Option.none : Option Jvm.ClassFile.FieldType) 2 := ⟨rfl, ⟨(lw_all_tbl q2429), rfl, (lw_all_tbl q204)⟩, rfl, ⟨by decide, by decide⟩, by decide +kernel⟩
noncomputable def c_X24_step (l0 : Int) (l1 : Int) (l2 : Int) : Mo CH Int :=
  bnd (gf [124] 5 l0) fun v1 =>
  bnd (isk 103 l1) fun _ =>
  bnd (c_X3_give l1 v1) fun _ =>
  pr 0
theorem sc_X24_step (g : gC) (d : Nat) (ts : TS) (l0 : Int) (l1 : Int) (l2 : Int) (hl2 : R32 l2) : SF g yX24_step (Cond.code yX24_step cX24_step 3 (Option.none : Option Jvm.ClassFile.FieldType)) (Option.none : Option Jvm.ClassFile.FieldType) (d + 3) [vA g l0, vA g l1, vI l2] (fun h => (h, ts)) (c_X24_step l0 l1 l2) := by
  refine SF.of (lv := [(0, vA g l0), (1, vA g l1), (2, vI l2)]) (by decide) (wt_A (wt_A (wt_I wt_0))) rfl (by simp only [la_A, la_I, la_J, la_0]) (fun Γ hg hnm o => ?_)
  subst hg
  have o : Ok Γ "LazyForge$Literal" cX24_step 3 (Option.none : Option Jvm.ClassFile.FieldType) (d + 3) := o
  unfold c_X24_step
  refine s_aload_n o dX24_step_0 rfl 1 rfl ?_
  refine s_aload_n o dX24_step_1 rfl 0 rfl ?_
  refine r_getf vJ rfl o cf_X24_value (Or.inl (lw_all_tbl q1550)) dX24_step_2 (fun v1 hv1 => ?_)
  refine s_cvC (d := d + 2) (As := [vJ v1]) (st := []) (c := 3) o (sc_X3_give (mg Γ) d ts l1 v1 hv1) mw_X3_give rfl (Or.inl (lw_all_tbl q2430)) rfl (lw_all_tbl q2188) (lw_all_tbl q2187) wt_0 rfl dX24_step_5 rfl (rs := fun _ => []) (fun _ => rfl) (fun _ _ => ?_)
  exact s_vret o rfl dX24_step_8 (fun _ hh => hh)
theorem dX25_step_0 : decode cX25_step 0 = .ok (.aload_n 0, 1) := by decide +kernel
theorem dX25_step_1 : decode cX25_step 1 = .ok (.aload_n 1, 1) := by decide +kernel
theorem dX25_step_2 : decode cX25_step 2 = .ok (.invokevirtual 52, 3) := by decide +kernel
theorem dX25_step_5 : decode cX25_step 5 = .ok (.lstore_n 3, 1) := by decide +kernel
theorem dX25_step_6 : decode cX25_step 6 = .ok (.lload_n 3, 1) := by decide +kernel
theorem dX25_step_7 : decode cX25_step 7 = .ok (.lconst 0, 1) := by decide +kernel
theorem dX25_step_8 : decode cX25_step 8 = .ok (.lcmp, 1) := by decide +kernel
theorem dX25_step_9 : decode cX25_step 9 = .ok (.ifCond .lt 8, 3) := by decide +kernel
theorem dX25_step_12 : decode cX25_step 12 = .ok (.aload_n 1, 1) := by decide +kernel
theorem dX25_step_13 : decode cX25_step 13 = .ok (.lload_n 3, 1) := by decide +kernel
theorem dX25_step_14 : decode cX25_step 14 = .ok (.invokevirtual 55, 3) := by decide +kernel
theorem dX25_step_17 : decode cX25_step 17 = .ok (.return_, 1) := by decide +kernel
theorem mw_X25_step : MW yX25_step (Cond.code yX25_step cX25_step 5 (Option.none : Option Jvm.ClassFile.FieldType)) cX25_step 5 (Option.none : Option Jvm.ClassFile.FieldType) 2 := ⟨rfl, ⟨(lw_all_tbl q2433), rfl, (lw_all_tbl q205)⟩, rfl, ⟨by decide, by decide⟩, by decide +kernel⟩
noncomputable def c_X25_step (l0 : Int) (l1 : Int) (l2 : Int) : Mo CH Int :=
  bnd (isk 125 l0) fun _ =>
  bnd (c_X25_keep l0 l1) fun v1 =>
  if v1 < 0 then
    pr 0
  else
    bnd (isk 103 l1) fun _ =>
    bnd (c_X3_give l1 v1) fun _ =>
    pr 0
theorem sc_X25_step (g : gC) (d : Nat) (ts : TS) (l0 : Int) (l1 : Int) (l2 : Int) (hl2 : R32 l2) : SF g yX25_step (Cond.code yX25_step cX25_step 5 (Option.none : Option Jvm.ClassFile.FieldType)) (Option.none : Option Jvm.ClassFile.FieldType) (d + 206) [vA g l0, vA g l1, vI l2] (fun h => (h, ts)) (c_X25_step l0 l1 l2) := by
  refine SF.of (lv := [(0, vA g l0), (1, vA g l1), (2, vI l2)]) (by decide) (wt_A (wt_A (wt_I wt_0))) rfl (by simp only [la_A, la_I, la_J, la_0]) (fun Γ hg hnm o => ?_)
  subst hg
  have o : Ok Γ "LazyForge$Made" cX25_step 5 (Option.none : Option Jvm.ClassFile.FieldType) (d + 206) := o
  unfold c_X25_step
  refine s_aload_n o dX25_step_0 rfl 0 rfl ?_
  refine s_aload_n o dX25_step_1 rfl 1 rfl ?_
  refine s_cvC (d := d + 205) (As := [vA (mg Γ) l1]) (st := []) (c := 25) o (sc_X25_keep (mg Γ) d ts l0 l1) mw_X25_keep rfl (Or.inl (lw_all_tbl q2434)) rfl (lw_all_tbl q3465) (lw_all_tbl q2293) wt_0 rfl dX25_step_2 rfl (rs := fun r => [vJ r]) (fun _ => rfl) (fun v1 hv1 => ?_)
  refine r_lstore_n o dX25_step_5 rfl rfl ⟨(Nat.ne_of_beq_eq_false rfl), (Nat.ne_of_beq_eq_false rfl), (fun _ => (vA_cat (mg Γ) l0)), ⟨(Nat.ne_of_beq_eq_false rfl), (Nat.ne_of_beq_eq_false rfl), (fun _ => (vA_cat (mg Γ) l1)), ⟨(Nat.ne_of_beq_eq_false rfl), (Nat.ne_of_beq_eq_false rfl), (fun _ => rfl), trivial⟩⟩⟩ ?_
  refine s_lload_n o dX25_step_6 rfl 0 rfl ?_
  refine s_lconst (x := 0) o dX25_step_7 rfl ?_
  refine s_lcmp_lt (tgt := 17) o dX25_step_8 dX25_step_9 (by decide) (hv1 _ rfl) (r64 rfl) ?_ ?_
  · exact s_vret o rfl dX25_step_17 (fun _ hh => hh)
  · refine s_aload_n o dX25_step_12 rfl 2 rfl ?_
    refine s_lload_n o dX25_step_13 rfl 0 rfl ?_
    refine s_cvC (d := d + 205) (As := [vJ v1]) (st := []) (c := 3) o (sc_X3_give (mg Γ) (d + 203) ts l1 v1 (hv1 _ rfl)) mw_X3_give rfl (Or.inl (lw_all_tbl q2435)) rfl (lw_all_tbl q2188) (lw_all_tbl q2187) wt_0 rfl dX25_step_14 rfl (rs := fun _ => []) (fun _ => rfl) (fun _ _ => ?_)
    exact s_vret o rfl dX25_step_17 (fun _ hh => hh)
theorem dX26_step_0 : decode cX26_step 0 = .ok (.aload_n 1, 1) := by decide +kernel
theorem dX26_step_1 : decode cX26_step 1 = .ok (.iconst 5, 1) := by decide +kernel
theorem dX26_step_2 : decode cX26_step 2 = .ok (.invokevirtual 15, 3) := by decide +kernel
theorem dX26_step_5 : decode cX26_step 5 = .ok (.return_, 1) := by decide +kernel
theorem mw_X26_step : MW yX26_step (Cond.code yX26_step cX26_step 3 (Option.none : Option Jvm.ClassFile.FieldType)) cX26_step 3 (Option.none : Option Jvm.ClassFile.FieldType) 2 := ⟨rfl, ⟨(lw_all_tbl q2374), rfl, (lw_all_tbl q206)⟩, rfl, ⟨by decide, by decide⟩, by decide +kernel⟩
noncomputable def c_X26_step (l0 : Int) (l1 : Int) (l2 : Int) : Mo CH Int :=
  bnd (isk 103 l1) fun _ =>
  bnd (c_X3_fault l1 5) fun _ =>
  pr 0
theorem sc_X26_step (g : gC) (d : Nat) (ts : TS) (l0 : Int) (l1 : Int) (l2 : Int) (hl2 : R32 l2) : SF g yX26_step (Cond.code yX26_step cX26_step 3 (Option.none : Option Jvm.ClassFile.FieldType)) (Option.none : Option Jvm.ClassFile.FieldType) (d + 2) [vA g l0, vA g l1, vI l2] (fun h => (h, ts)) (c_X26_step l0 l1 l2) := by
  refine SF.of (lv := [(0, vA g l0), (1, vA g l1), (2, vI l2)]) (by decide) (wt_A (wt_A (wt_I wt_0))) rfl (by simp only [la_A, la_I, la_J, la_0]) (fun Γ hg hnm o => ?_)
  subst hg
  have o : Ok Γ "LazyForge$Fail" cX26_step 3 (Option.none : Option Jvm.ClassFile.FieldType) (d + 2) := o
  unfold c_X26_step
  refine s_aload_n o dX26_step_0 rfl 1 rfl ?_
  refine s_iconst o dX26_step_1 ?_
  refine s_cvC (d := d + 1) (As := [vI 5]) (st := []) (c := 3) o (sc_X3_fault (mg Γ) d ts l1 5 (r32 rfl)) mw_X3_fault rfl (Or.inl (lw_all_tbl q2375)) rfl (lw_all_tbl q2197) (lw_all_tbl q2196) wt_0 rfl dX26_step_2 rfl (rs := fun _ => []) (fun _ => rfl) (fun _ _ => ?_)
  exact s_vret o rfl dX26_step_5 (fun _ hh => hh)
noncomputable def v_X4_step (l0 : Int) (l1 : Int) (l2 : Int) : Mo CH Int := dsp l0 [([106], c_X6_step l0 l1 l2), ([107], c_X7_step l0 l1 l2), ([108], c_X8_step l0 l1 l2), ([109], c_X9_step l0 l1 l2), ([110], c_X10_step l0 l1 l2), ([118], c_X18_step l0 l1 l2), ([119], c_X19_step l0 l1 l2), ([120], c_X20_step l0 l1 l2), ([121], c_X21_step l0 l1 l2), ([122], c_X22_step l0 l1 l2), ([123], c_X23_step l0 l1 l2), ([124], c_X24_step l0 l1 l2), ([125], c_X25_step l0 l1 l2), ([126], c_X26_step l0 l1 l2)]
theorem sv_X4_step (g : gC) (d : Nat) (ts : TS) (l0 : Int) (l1 : Int) (l2 : Int) (hl2 : R32 l2) : VR g ts ⟨"LazyForge$Part", "step", "(LLazyForge$Machine;I)V"⟩ none 2 (d + 207) l0 [vA g l1, vI l2] (v_X4_step l0 l1 l2) := (VR.cons (x0 := ⟨"LazyForge$Part", "step", "(LLazyForge$Machine;I)V"⟩) ⟨⟨6, _, rfl, rfl, (lw_all_tbl q2455)⟩, trivial⟩ (lw_all_tbl q2456) mw_X6_step (sc_X6_step g (d + 206) ts l0 l1 l2 hl2) (VR.cons (x0 := ⟨"LazyForge$Part", "step", "(LLazyForge$Machine;I)V"⟩) ⟨⟨7, _, rfl, rfl, (lw_all_tbl q2394)⟩, trivial⟩ (lw_all_tbl q2395) mw_X7_step (sc_X7_step g (d + 206) ts l0 l1 l2 hl2) (VR.cons (x0 := ⟨"LazyForge$Part", "step", "(LLazyForge$Machine;I)V"⟩) ⟨⟨8, _, rfl, rfl, (lw_all_tbl q2215)⟩, trivial⟩ (lw_all_tbl q2216) mw_X8_step (sc_X8_step g (d + 201) ts l0 l1 l2 hl2) (VR.cons (x0 := ⟨"LazyForge$Part", "step", "(LLazyForge$Machine;I)V"⟩) ⟨⟨9, _, rfl, rfl, (lw_all_tbl q2368)⟩, trivial⟩ (lw_all_tbl q2369) mw_X9_step (sc_X9_step g (d + 202) ts l0 l1 l2 hl2) (VR.cons (x0 := ⟨"LazyForge$Part", "step", "(LLazyForge$Machine;I)V"⟩) ⟨⟨10, _, rfl, rfl, (lw_all_tbl q2376)⟩, trivial⟩ (lw_all_tbl q2377) mw_X10_step (sc_X10_step g (d + 204) ts l0 l1 l2 hl2) (VR.cons (x0 := ⟨"LazyForge$Part", "step", "(LLazyForge$Machine;I)V"⟩) ⟨⟨18, _, rfl, rfl, (lw_all_tbl q2401)⟩, trivial⟩ (lw_all_tbl q2402) mw_X18_step (sc_X18_step g (d + 0) ts l0 l1 l2 hl2) (VR.cons (x0 := ⟨"LazyForge$Part", "step", "(LLazyForge$Machine;I)V"⟩) ⟨⟨19, _, rfl, rfl, (lw_all_tbl q2436)⟩, trivial⟩ (lw_all_tbl q2437) mw_X19_step (sc_X19_step g (d + 202) ts l0 l1 l2 hl2) (VR.cons (x0 := ⟨"LazyForge$Part", "step", "(LLazyForge$Machine;I)V"⟩) ⟨⟨20, _, rfl, rfl, (lw_all_tbl q2462)⟩, trivial⟩ (lw_all_tbl q2463) mw_X20_step (sc_X20_step g (d + 202) ts l0 l1 l2 hl2) (VR.cons (x0 := ⟨"LazyForge$Part", "step", "(LLazyForge$Machine;I)V"⟩) ⟨⟨21, _, rfl, rfl, (lw_all_tbl q2240)⟩, trivial⟩ (lw_all_tbl q2241) mw_X21_step (sc_X21_step g (d + 0) ts l0 l1 l2 hl2) (VR.cons (x0 := ⟨"LazyForge$Part", "step", "(LLazyForge$Machine;I)V"⟩) ⟨⟨22, _, rfl, rfl, (lw_all_tbl q2344)⟩, trivial⟩ (lw_all_tbl q2345) mw_X22_step (sc_X22_step g (d + 204) ts l0 l1 l2 hl2) (VR.cons (x0 := ⟨"LazyForge$Part", "step", "(LLazyForge$Machine;I)V"⟩) ⟨⟨23, _, rfl, rfl, (lw_all_tbl q2441)⟩, trivial⟩ (lw_all_tbl q2442) mw_X23_step (sc_X23_step g (d + 203) ts l0 l1 l2 hl2) (VR.cons (x0 := ⟨"LazyForge$Part", "step", "(LLazyForge$Machine;I)V"⟩) ⟨⟨24, _, rfl, rfl, (lw_all_tbl q2427)⟩, trivial⟩ (lw_all_tbl q2428) mw_X24_step (sc_X24_step g (d + 204) ts l0 l1 l2 hl2) (VR.cons (x0 := ⟨"LazyForge$Part", "step", "(LLazyForge$Machine;I)V"⟩) ⟨⟨25, _, rfl, rfl, (lw_all_tbl q2431)⟩, trivial⟩ (lw_all_tbl q2432) mw_X25_step (sc_X25_step g (d + 1) ts l0 l1 l2 hl2) (VR.cons (x0 := ⟨"LazyForge$Part", "step", "(LLazyForge$Machine;I)V"⟩) ⟨⟨26, _, rfl, rfl, (lw_all_tbl q2372)⟩, trivial⟩ (lw_all_tbl q2373) mw_X26_step (sc_X26_step g (d + 205) ts l0 l1 l2 hl2) VR.nil))))))))))))))
theorem dX3_run_0 : decode cX3_run 0 = .ok (.aload_n 0, 1) := by decide +kernel
theorem dX3_run_1 : decode cX3_run 1 = .ok (.aload_n 1, 1) := by decide +kernel
theorem dX3_run_2 : decode cX3_run 2 = .ok (.putfield 186, 3) := by decide +kernel
theorem dX3_run_5 : decode cX3_run 5 = .ok (.aload_n 0, 1) := by decide +kernel
theorem dX3_run_6 : decode cX3_run 6 = .ok (.iload_n 2, 1) := by decide +kernel
theorem dX3_run_7 : decode cX3_run 7 = .ok (.putfield 286, 3) := by decide +kernel
theorem dX3_run_10 : decode cX3_run 10 = .ok (.aload_n 0, 1) := by decide +kernel
theorem dX3_run_11 : decode cX3_run 11 = .ok (.iload_n 3, 1) := by decide +kernel
theorem dX3_run_12 : decode cX3_run 12 = .ok (.putfield 224, 3) := by decide +kernel
theorem dX3_run_15 : decode cX3_run 15 = .ok (.aload_n 0, 1) := by decide +kernel
theorem dX3_run_16 : decode cX3_run 16 = .ok (.invokevirtual 290, 3) := by decide +kernel
theorem dX3_run_19 : decode cX3_run 19 = .ok (.iconst 0, 1) := by decide +kernel
theorem dX3_run_20 : decode cX3_run 20 = .ok (.istore 4, 2) := by decide +kernel
theorem dX3_run_22 : decode cX3_run 22 = .ok (.iload 4, 2) := by decide +kernel
theorem dX3_run_24 : decode cX3_run 24 = .ok (.aload_n 1, 1) := by decide +kernel
theorem dX3_run_25 : decode cX3_run 25 = .ok (.getfield 243, 3) := by decide +kernel
theorem dX3_run_28 : decode cX3_run 28 = .ok (.invokevirtual 293, 3) := by decide +kernel
theorem dX3_run_31 : decode cX3_run 31 = .ok (.if_icmp .ge 53, 3) := by decide +kernel
theorem dX3_run_34 : decode cX3_run 34 = .ok (.aload_n 1, 1) := by decide +kernel
theorem dX3_run_35 : decode cX3_run 35 = .ok (.getfield 243, 3) := by decide +kernel
theorem dX3_run_38 : decode cX3_run 38 = .ok (.iload 4, 2) := by decide +kernel
theorem dX3_run_40 : decode cX3_run 40 = .ok (.invokevirtual 196, 3) := by decide +kernel
theorem dX3_run_43 : decode cX3_run 43 = .ok (.checkcast 129, 3) := by decide +kernel
theorem dX3_run_46 : decode cX3_run 46 = .ok (.astore 5, 2) := by decide +kernel
theorem dX3_run_48 : decode cX3_run 48 = .ok (.aload 5, 2) := by decide +kernel
theorem dX3_run_50 : decode cX3_run 50 = .ok (.iconst 0, 1) := by decide +kernel
theorem dX3_run_51 : decode cX3_run 51 = .ok (.putfield 227, 3) := by decide +kernel
theorem dX3_run_54 : decode cX3_run 54 = .ok (.aload 5, 2) := by decide +kernel
theorem dX3_run_56 : decode cX3_run 56 = .ok (.invokevirtual 228, 3) := by decide +kernel
theorem dX3_run_59 : decode cX3_run 59 = .ok (.ifCond .ne 19, 3) := by decide +kernel
theorem dX3_run_62 : decode cX3_run 62 = .ok (.aload_n 0, 1) := by decide +kernel
theorem dX3_run_63 : decode cX3_run 63 = .ok (.getfield 65, 3) := by decide +kernel
theorem dX3_run_66 : decode cX3_run 66 = .ok (.iload 4, 2) := by decide +kernel
theorem dX3_run_68 : decode cX3_run 68 = .ok (.aload_n 0, 1) := by decide +kernel
theorem dX3_run_69 : decode cX3_run 69 = .ok (.aload 5, 2) := by decide +kernel
theorem dX3_run_71 : decode cX3_run 71 = .ok (.getfield 234, 3) := by decide +kernel
theorem dX3_run_74 : decode cX3_run 74 = .ok (.invokevirtual 150, 3) := by decide +kernel
theorem dX3_run_77 : decode cX3_run 77 = .ok (.lastore, 1) := by decide +kernel
theorem dX3_run_78 : decode cX3_run 78 = .ok (.iinc 4 1, 3) := by decide +kernel
theorem dX3_run_81 : decode cX3_run 81 = .ok (.goto (-59), 3) := by decide +kernel
theorem dX3_run_84 : decode cX3_run 84 = .ok (.aload_n 0, 1) := by decide +kernel
theorem dX3_run_85 : decode cX3_run 85 = .ok (.aload_n 0, 1) := by decide +kernel
theorem dX3_run_86 : decode cX3_run 86 = .ok (.getfield 39, 3) := by decide +kernel
theorem dX3_run_89 : decode cX3_run 89 = .ok (.iconst 0, 1) := by decide +kernel
theorem dX3_run_90 : decode cX3_run 90 = .ok (.invokevirtual 81, 3) := by decide +kernel
theorem dX3_run_93 : decode cX3_run 93 = .ok (.aload_n 0, 1) := by decide +kernel
theorem dX3_run_94 : decode cX3_run 94 = .ok (.aload_n 0, 1) := by decide +kernel
theorem dX3_run_95 : decode cX3_run 95 = .ok (.getfield 65, 3) := by decide +kernel
theorem dX3_run_98 : decode cX3_run 98 = .ok (.aload_n 1, 1) := by decide +kernel
theorem dX3_run_99 : decode cX3_run 99 = .ok (.getfield 296, 3) := by decide +kernel
theorem dX3_run_102 : decode cX3_run 102 = .ok (.laload, 1) := by decide +kernel
theorem dX3_run_103 : decode cX3_run 103 = .ok (.invokevirtual 299, 3) := by decide +kernel
theorem dX3_run_106 : decode cX3_run 106 = .ok (.aload_n 0, 1) := by decide +kernel
theorem dX3_run_107 : decode cX3_run 107 = .ok (.getfield 101, 3) := by decide +kernel
theorem dX3_run_110 : decode cX3_run 110 = .ok (.ifCond .ne 54, 3) := by decide +kernel
theorem dX3_run_113 : decode cX3_run 113 = .ok (.aload_n 0, 1) := by decide +kernel
theorem dX3_run_114 : decode cX3_run 114 = .ok (.getfield 71, 3) := by decide +kernel
theorem dX3_run_117 : decode cX3_run 117 = .ok (.ifCond .ne 12, 3) := by decide +kernel
theorem dX3_run_120 : decode cX3_run 120 = .ok (.aload_n 0, 1) := by decide +kernel
theorem dX3_run_121 : decode cX3_run 121 = .ok (.iconst 1, 1) := by decide +kernel
theorem dX3_run_122 : decode cX3_run 122 = .ok (.iconst 0, 1) := by decide +kernel
theorem dX3_run_123 : decode cX3_run 123 = .ok (.invokevirtual 107, 3) := by decide +kernel
theorem dX3_run_126 : decode cX3_run 126 = .ok (.goto (-20), 3) := by decide +kernel
theorem dX3_run_129 : decode cX3_run 129 = .ok (.aload_n 0, 1) := by decide +kernel
theorem dX3_run_130 : decode cX3_run 130 = .ok (.dup, 1) := by decide +kernel
theorem dX3_run_131 : decode cX3_run 131 = .ok (.getfield 71, 3) := by decide +kernel
theorem dX3_run_134 : decode cX3_run 134 = .ok (.iconst 1, 1) := by decide +kernel
theorem dX3_run_135 : decode cX3_run 135 = .ok (.isub, 1) := by decide +kernel
theorem dX3_run_136 : decode cX3_run 136 = .ok (.putfield 71, 3) := by decide +kernel
theorem dX3_run_139 : decode cX3_run 139 = .ok (.aload_n 0, 1) := by decide +kernel
theorem dX3_run_140 : decode cX3_run 140 = .ok (.getfield 48, 3) := by decide +kernel
theorem dX3_run_143 : decode cX3_run 143 = .ok (.aload_n 0, 1) := by decide +kernel
theorem dX3_run_144 : decode cX3_run 144 = .ok (.getfield 71, 3) := by decide +kernel
theorem dX3_run_147 : decode cX3_run 147 = .ok (.aaload, 1) := by decide +kernel
theorem dX3_run_148 : decode cX3_run 148 = .ok (.aload_n 0, 1) := by decide +kernel
theorem dX3_run_149 : decode cX3_run 149 = .ok (.aload_n 0, 1) := by decide +kernel
theorem dX3_run_150 : decode cX3_run 150 = .ok (.getfield 52, 3) := by decide +kernel
theorem dX3_run_153 : decode cX3_run 153 = .ok (.aload_n 0, 1) := by decide +kernel
theorem dX3_run_154 : decode cX3_run 154 = .ok (.getfield 71, 3) := by decide +kernel
theorem dX3_run_157 : decode cX3_run 157 = .ok (.iaload, 1) := by decide +kernel
theorem dX3_run_158 : decode cX3_run 158 = .ok (.invokevirtual 302, 3) := by decide +kernel
theorem dX3_run_161 : decode cX3_run 161 = .ok (.goto (-55), 3) := by decide +kernel
theorem dX3_run_164 : decode cX3_run 164 = .ok (.return_, 1) := by decide +kernel
theorem mw_X3_run : MW yX3_run (Cond.code yX3_run cX3_run 6 (Option.none : Option Jvm.ClassFile.FieldType)) cX3_run 6 (Option.none : Option Jvm.ClassFile.FieldType) 3 := ⟨rfl, ⟨(lw_all_tbl q2153), rfl, (lw_all_tbl q165)⟩, rfl, ⟨by decide, by decide⟩, by decide +kernel⟩
abbrev okc_X3_run_22 (x : Int × Int × Int) : Prop := R32 x.2.2
abbrev lvc_X3_run_22 (Γ : Gm) (x : Int × Int × Int) : List (Nat × Value) := [(0, vA (mg Γ) x.1), (1, vA (mg Γ) x.2.1), (4, vI x.2.2)]
noncomputable def c_X3_run_78 {A : Type} (k_84 : Int → Int → Mo CH A) (l0 : Int) (l1 : Int) (l4 : Int) : Mo CH ((Int × Int × Int) ⊕ A) :=
  pr (.inl (l0, l1, (w32 (l4 + 1))))
theorem sc_X3_run_78 {Γ : Gm} {ts : TS} {d : Nat} (o : Ok Γ "LazyForge$Machine" cX3_run 6 (Option.none : Option Jvm.ClassFile.FieldType) (d + 208)) {A : Type} {K : A → CH → Prop}  (k_84 : Int → Int → Mo CH A) (hk_84 : ∀ (l0 : Int) (l1 : Int), Sx Γ (fun h => (h, ts)) K 84 [(0, vA (mg Γ) l0), (1, vA (mg Γ) l1)] [] (k_84 l0 l1)) (l0 : Int) (l1 : Int) (l4 : Int) (hl4 : R32 l4) : Sx Γ (fun h => (h, ts)) (KL Γ (fun h => (h, ts)) okc_X3_run_22 K 22 (lvc_X3_run_22 Γ) []) 78 [(0, vA (mg Γ) l0), (1, vA (mg Γ) l1), (4, vI l4)] [] (c_X3_run_78 k_84 l0 l1 l4) := by
  unfold c_X3_run_78
  refine r_iinc (j := 2) o dX3_run_78 rfl rfl [(0, vA (mg Γ) l0), (1, vA (mg Γ) l1)] [0, 1] rfl ⟨(Nat.ne_of_beq_eq_false rfl), (fun _ => (vA_cat (mg Γ) l0)), ⟨(Nat.ne_of_beq_eq_false rfl), (fun _ => (vA_cat (mg Γ) l1)), trivial⟩⟩ ?_
  refine s_goto (tgt := 22) o dX3_run_81 (by decide) ?_
  refine r_to [(0, vA (mg Γ) l0), (1, vA (mg Γ) l1), (4, vI (w32 (l4 + 1)))] [1, 2, 0] rfl ?_
  exact s_back (w32_R _) rfl
noncomputable def c_X3_run_22b {A : Type} (k_84 : Int → Int → Mo CH A) (l0 : Int) (l1 : Int) (l4 : Int) : Mo CH ((Int × Int × Int) ⊕ A) :=
  bnd (gf [115] 0 l1) fun v1 =>
  bnd (isk 127 v1) fun _ =>
  bnd (c_J13_size v1) fun v2 =>
  if v2 ≤ l4 then
    lo (k_84 l0 l1)
  else
    bnd (gf [115] 0 l1) fun v3 =>
    bnd (isk 127 v3) fun _ =>
    bnd (c_J13_get v3 l4) fun v4 =>
    bnd (ckk [116] v4) fun _ =>
    bnd (pf [116] 10 v4 0) fun _ =>
    bnd (isk 116 v4) fun _ =>
    bnd (c_X16_parameters v4) fun v5 =>
    if ¬ v5 = 0 then
      c_X3_run_78 k_84 l0 l1 l4
    else
      bnd (gf [103] 19 l0) fun v6 =>
      bnd (gf [116] 6 v4) fun v7 =>
      bnd (isk 103 l0) fun _ =>
      bnd (c_X3_reserve l0 v7) fun v8 =>
      bnd (ast 1 v6 l4 v8) fun _ =>
      c_X3_run_78 k_84 l0 l1 l4
theorem sc_X3_run_22b {Γ : Gm} {ts : TS} {d : Nat} (o : Ok Γ "LazyForge$Machine" cX3_run 6 (Option.none : Option Jvm.ClassFile.FieldType) (d + 208)) {A : Type} {K : A → CH → Prop} (k_84 : Int → Int → Mo CH A) (hk_84 : ∀ (l0 : Int) (l1 : Int), Sx Γ (fun h => (h, ts)) K 84 [(0, vA (mg Γ) l0), (1, vA (mg Γ) l1)] [] (k_84 l0 l1)) (l0 : Int) (l1 : Int) (l4 : Int) (hl4 : R32 l4) : Sx Γ (fun h => (h, ts)) (KL Γ (fun h => (h, ts)) okc_X3_run_22 K 22 (lvc_X3_run_22 Γ) []) 22 [(0, vA (mg Γ) l0), (1, vA (mg Γ) l1), (4, vI l4)] [] (c_X3_run_22b k_84 l0 l1 l4) := by
  unfold c_X3_run_22b
  refine s_iload o dX3_run_22 2 rfl ?_
  refine s_aload_n o dX3_run_24 rfl 1 rfl ?_
  refine r_getf (vA (mg Γ)) rfl o cf_X15_functions (Or.inr (Or.inl ⟨_, q1060⟩)) dX3_run_25 (fun v1 hv1 => ?_)
  refine s_cvC (d := d + 207) (As := []) (st := [vI l4]) (c := 27) o (sc_J13_size (mg Γ) (d + 207) ts v1) mw_J13_size rfl (Or.inl (lw_all_tbl q2155)) rfl (lw_all_tbl q1359) (lw_all_tbl q1358) (wt_I wt_0) rfl dX3_run_28 rfl (rs := fun r => [vI r, vI l4]) (fun _ => rfl) (fun v2 hv2 => ?_)
  refine s_icmp_ge (tgt := 84) o dX3_run_31 (by decide) hl4 (hv2 _ rfl) ?_ ?_
  · refine r_to [(0, vA (mg Γ) l0), (1, vA (mg Γ) l1)] [0, 1] rfl ?_
    exact s_lo (hk_84 l0 l1)
  · refine s_aload_n o dX3_run_34 rfl 1 rfl ?_
    refine r_getf (vA (mg Γ)) rfl o cf_X15_functions (Or.inr (Or.inl ⟨_, q1060⟩)) dX3_run_35 (fun v3 hv3 => ?_)
    refine s_iload o dX3_run_38 2 rfl ?_
    refine s_cvC (d := d + 207) (As := [vI l4]) (st := []) (c := 27) o (sc_J13_get (mg Γ) (d + 205) ts v3 l4 hl4) mw_J13_get rfl (Or.inl (lw_all_tbl q2156)) rfl (lw_all_tbl q1268) (lw_all_tbl q1267) wt_0 rfl dX3_run_40 rfl (rs := fun r => [vA (mg Γ) r]) (fun _ => rfl) (fun v4 hv4 => ?_)
    refine s_cast o (cs_X16 o) (lw_all_tbl q2157) dX3_run_43 ?_
    refine r_astore o dX3_run_46 rfl ⟨(Nat.ne_of_beq_eq_false rfl), (fun _ => (vA_cat (mg Γ) l0)), ⟨(Nat.ne_of_beq_eq_false rfl), (fun _ => (vA_cat (mg Γ) l1)), ⟨(Nat.ne_of_beq_eq_false rfl), (fun _ => rfl), trivial⟩⟩⟩ ?_
    refine s_aload o dX3_run_48 0 rfl ?_
    refine s_iconst o dX3_run_50 ?_
    refine r_putf vI rfl o cf_X16_calls (Or.inr (Or.inl ⟨_, q1169⟩)) dX3_run_51 (Or.inl rfl) (r32 rfl) ty_int ?_
    refine s_aload o dX3_run_54 0 rfl ?_
    refine s_cvC (d := d + 207) (As := []) (st := []) (c := 16) o (sc_X16_parameters (mg Γ) (d + 206) ts v4) mw_X16_parameters rfl (Or.inl (lw_all_tbl q2158)) rfl (lw_all_tbl q1606) (lw_all_tbl q1605) wt_0 rfl dX3_run_56 rfl (rs := fun r => [vI r]) (fun _ => rfl) (fun v5 hv5 => ?_)
    refine s_if_ne (tgt := 78) o dX3_run_59 (by decide) (hv5 _ rfl) ?_ ?_
    · refine r_to [(0, vA (mg Γ) l0), (1, vA (mg Γ) l1), (4, vI l4)] [1, 2, 3] rfl ?_
      exact sc_X3_run_78 o k_84 hk_84 l0 l1 l4 hl4
    · refine s_aload_n o dX3_run_62 rfl 1 rfl ?_
      refine r_getf (vA (mg Γ)) rfl o cf_X3_wholes (Or.inl (lw_all_tbl q350)) dX3_run_63 (fun v6 hv6 => ?_)
      refine s_iload o dX3_run_66 3 rfl ?_
      refine s_aload_n o dX3_run_68 rfl 1 rfl ?_
      refine s_aload o dX3_run_69 0 rfl ?_
      refine r_getf (vA (mg Γ)) rfl o cf_X16_body (Or.inr (Or.inl ⟨_, q1161⟩)) dX3_run_71 (fun v7 hv7 => ?_)
      refine s_cvC (d := d + 207) (As := [vA (mg Γ) v7]) (st := [vI l4, vA (mg Γ) v6]) (c := 3) o (sc_X3_reserve (mg Γ) (d + 205) ts l0 v7) mw_X3_reserve rfl (Or.inl (lw_all_tbl q2159)) rfl (lw_all_tbl q2161) (lw_all_tbl q2160) (wt_I (wt_A wt_0)) rfl dX3_run_74 rfl (rs := fun r => [vJ r, vI l4, vA (mg Γ) v6]) (fun _ => rfl) (fun v8 hv8 => ?_)
      refine r_last o hl4 (hv8 _ rfl) dX3_run_77 ?_
      refine r_to [(0, vA (mg Γ) l0), (1, vA (mg Γ) l1), (4, vI l4)] [1, 2, 3] rfl ?_
      exact sc_X3_run_78 o k_84 hk_84 l0 l1 l4 hl4
noncomputable def c_X3_run_22 {A : Type} (k_84 : Int → Int → Mo CH A) (l0 : Int) (l1 : Int) (l4 : Int) : Mo CH A := Loop (fun x => c_X3_run_22b k_84 x.1 x.2.1 x.2.2) (l0, l1, l4)
theorem sc_X3_run_22 {Γ : Gm} {ts : TS} {d : Nat} (o : Ok Γ "LazyForge$Machine" cX3_run 6 (Option.none : Option Jvm.ClassFile.FieldType) (d + 208)) {A : Type} {K : A → CH → Prop} (k_84 : Int → Int → Mo CH A) (hk_84 : ∀ (l0 : Int) (l1 : Int), Sx Γ (fun h => (h, ts)) K 84 [(0, vA (mg Γ) l0), (1, vA (mg Γ) l1)] [] (k_84 l0 l1)) (l0 : Int) (l1 : Int) (l4 : Int) (hl4 : R32 l4) : Sx Γ (fun h => (h, ts)) K 22 [(0, vA (mg Γ) l0), (1, vA (mg Γ) l1), (4, vI l4)] [] (c_X3_run_22 k_84 l0 l1 l4) :=
  s_loop okc_X3_run_22 (lvc_X3_run_22 Γ) (fun x hx => sc_X3_run_22b o k_84 hk_84 x.1 x.2.1 x.2.2 hx) (x := (l0, l1, l4)) hl4
abbrev okc_X3_run_106 (x : Int) : Prop := True
abbrev lvc_X3_run_106 (Γ : Gm) (x : Int) : List (Nat × Value) := [(0, vA (mg Γ) x)]
noncomputable def c_X3_run_106b {A : Type} (k_164 : Mo CH A) (l0 : Int) : Mo CH ((Int) ⊕ A) :=
  bnd (gf [103] 22 l0) fun v1 =>
  if ¬ v1 = 0 then
    lo k_164
  else
    bnd (gf [103] 8 l0) fun v2 =>
    if ¬ v2 = 0 then
      bnd (gf [103] 8 l0) fun v3 =>
      bnd (pf [103] 8 l0 (w32 (v3 - 1))) fun _ =>
      bnd (gf [103] 6 l0) fun v4 =>
      bnd (gf [103] 8 l0) fun v5 =>
      bnd (ald 5 v4 v5) fun v6 =>
      bnd (gf [103] 7 l0) fun v7 =>
      bnd (gf [103] 8 l0) fun v8 =>
      bnd (ald 0 v7 v8) fun v9 =>
      bnd (v_X4_step v6 l0 v9) fun _ =>
      pr (.inl l0)
    else
      bnd (isk 103 l0) fun _ =>
      bnd (c_X3_end l0 1 0) fun _ =>
      pr (.inl l0)
theorem sc_X3_run_106b {Γ : Gm} {ts : TS} {d : Nat} (o : Ok Γ "LazyForge$Machine" cX3_run 6 (Option.none : Option Jvm.ClassFile.FieldType) (d + 208)) {A : Type} {K : A → CH → Prop} (k_164 : Mo CH A) (hk_164 : Sx Γ (fun h => (h, ts)) K 164 [] [] (k_164)) (l0 : Int) : Sx Γ (fun h => (h, ts)) (KL Γ (fun h => (h, ts)) okc_X3_run_106 K 106 (lvc_X3_run_106 Γ) []) 106 [(0, vA (mg Γ) l0)] [] (c_X3_run_106b k_164 l0) := by
  unfold c_X3_run_106b
  refine s_aload_n o dX3_run_106 rfl 0 rfl ?_
  refine r_getf vI rfl o cf_X3_ends (Or.inl (lw_all_tbl q355)) dX3_run_107 (fun v1 hv1 => ?_)
  refine s_if_ne (tgt := 164) o dX3_run_110 (by decide) hv1 ?_ ?_
  · refine r_to [] [] rfl ?_
    exact s_lo hk_164
  · refine s_aload_n o dX3_run_113 rfl 0 rfl ?_
    refine r_getf vI rfl o cf_X3_waits (Or.inl (lw_all_tbl q337)) dX3_run_114 (fun v2 hv2 => ?_)
    refine s_if_ne (tgt := 129) o dX3_run_117 (by decide) hv2 ?_ ?_
    · refine s_aload_n o dX3_run_129 rfl 0 rfl ?_
      refine s_dup o dX3_run_130 (vA_cat (mg Γ) l0) ?_
      refine r_getf vI rfl o cf_X3_waits (Or.inl (lw_all_tbl q337)) dX3_run_131 (fun v3 hv3 => ?_)
      refine s_iconst o dX3_run_134 ?_
      refine s_isub o dX3_run_135 ?_
      refine r_putf vI rfl o cf_X3_waits (Or.inl (lw_all_tbl q337)) dX3_run_136 (Or.inl rfl) (w32_R _) ty_int ?_
      refine s_aload_n o dX3_run_139 rfl 0 rfl ?_
      refine r_getf (vA (mg Γ)) rfl o cf_X3_waiting (Or.inl (lw_all_tbl q335)) dX3_run_140 (fun v4 hv4 => ?_)
      refine s_aload_n o dX3_run_143 rfl 0 rfl ?_
      refine r_getf vI rfl o cf_X3_waits (Or.inl (lw_all_tbl q337)) dX3_run_144 (fun v5 hv5 => ?_)
      refine r_aald (kd := 5) o (by decide) rfl hv5 dX3_run_147 (fun v6 => ?_)
      refine s_aload_n o dX3_run_148 rfl 0 rfl ?_
      refine s_aload_n o dX3_run_149 rfl 0 rfl ?_
      refine r_getf (vA (mg Γ)) rfl o cf_X3_states (Or.inl (lw_all_tbl q336)) dX3_run_150 (fun v7 hv7 => ?_)
      refine s_aload_n o dX3_run_153 rfl 0 rfl ?_
      refine r_getf vI rfl o cf_X3_waits (Or.inl (lw_all_tbl q337)) dX3_run_154 (fun v8 hv8 => ?_)
      refine r_iald o hv8 dX3_run_157 (fun v9 hv9 => ?_)
      refine s_cu (d := d + 207) (As := [vA (mg Γ) l0, vI v9]) (st := []) (owner := "LazyForge$Part") o (sv_X4_step (mg Γ) d ts v6 l0 v9 hv9) rfl (lw_all_tbl q2212) (lw_all_tbl q2214) (Or.inl q2213) ⟨by decide, by decide⟩ (by decide +kernel) wt_0 rfl dX3_run_158 rfl (rs := fun _ => []) (fun _ => rfl) (fun _ _ => ?_)
      refine s_goto (tgt := 106) o dX3_run_161 (by decide) ?_
      exact s_back trivial rfl
    · refine s_aload_n o dX3_run_120 rfl 0 rfl ?_
      refine s_iconst o dX3_run_121 ?_
      refine s_iconst o dX3_run_122 ?_
      refine s_cvC (d := d + 207) (As := [vI 1, vI 0]) (st := []) (c := 3) o (sc_X3_end (mg Γ) (d + 207) ts l0 1 0 (r32 rfl) (r32 rfl)) mw_X3_end rfl (Or.inl (lw_all_tbl q2167)) rfl (lw_all_tbl qs50) (lw_all_tbl q2169) wt_0 rfl dX3_run_123 rfl (rs := fun _ => []) (fun _ => rfl) (fun _ _ => ?_)
      refine s_goto (tgt := 106) o dX3_run_126 (by decide) ?_
      exact s_back trivial rfl
noncomputable def c_X3_run_106 {A : Type} (k_164 : Mo CH A) (l0 : Int) : Mo CH A := Loop (fun x => c_X3_run_106b k_164 x) l0
theorem sc_X3_run_106 {Γ : Gm} {ts : TS} {d : Nat} (o : Ok Γ "LazyForge$Machine" cX3_run 6 (Option.none : Option Jvm.ClassFile.FieldType) (d + 208)) {A : Type} {K : A → CH → Prop} (k_164 : Mo CH A) (hk_164 : Sx Γ (fun h => (h, ts)) K 164 [] [] (k_164)) (l0 : Int) : Sx Γ (fun h => (h, ts)) K 106 [(0, vA (mg Γ) l0)] [] (c_X3_run_106 k_164 l0) :=
  s_loop okc_X3_run_106 (lvc_X3_run_106 Γ) (fun x hx => sc_X3_run_106b o k_164 hk_164 x) (x := l0) trivial
noncomputable def c_X3_run (l0 : Int) (l1 : Int) (l2 : Int) (l3 : Int) : Mo CH Int :=
  bnd (pf [103] 16 l0 l1) fun _ =>
  bnd (pf [103] 17 l0 l2) fun _ =>
  bnd (pf [103] 18 l0 l3) fun _ =>
  bnd (isk 103 l0) fun _ =>
  bnd (c_X3_clear l0) fun _ =>
  c_X3_run_22
    (fun v1 v2 => bnd (gf [103] 4 v1) fun v3 =>
  bnd (isk 103 v1) fun _ =>
  bnd (c_X3_again v1 v3 0) fun _ =>
  bnd (gf [103] 19 v1) fun v4 =>
  bnd (gf [115] 3 v2) fun v5 =>
  bnd (ald 1 v4 v5) fun v6 =>
  bnd (isk 103 v1) fun _ =>
  bnd (c_X3_enter v1 v6) fun _ =>
  c_X3_run_106
    (pr 0) v1) l0 l1 0
theorem sc_X3_run (g : gC) (d : Nat) (ts : TS) (l0 : Int) (l1 : Int) (l2 : Int) (l3 : Int) (hl2 : rg .boolean l2) (hl3 : R32 l3) : SF g yX3_run (Cond.code yX3_run cX3_run 6 (Option.none : Option Jvm.ClassFile.FieldType)) (Option.none : Option Jvm.ClassFile.FieldType) (d + 208) [vA g l0, vA g l1, vI l2, vI l3] (fun h => (h, ts)) (c_X3_run l0 l1 l2 l3) := by
  refine SF.of (lv := [(0, vA g l0), (1, vA g l1), (2, vI l2), (3, vI l3)]) (by decide) (wt_A (wt_A (wt_I (wt_I wt_0)))) rfl (by simp only [la_A, la_I, la_J, la_0]) (fun Γ hg hnm o => ?_)
  subst hg
  have o : Ok Γ "LazyForge$Machine" cX3_run 6 (Option.none : Option Jvm.ClassFile.FieldType) (d + 208) := o
  unfold c_X3_run
  refine s_aload_n o dX3_run_0 rfl 0 rfl ?_
  refine s_aload_n o dX3_run_1 rfl 1 rfl ?_
  refine r_putf (vA (mg Γ)) rfl o cf_X3_program (Or.inl (lw_all_tbl q345)) dX3_run_2 (Or.inl rfl) trivial (ty_object _) ?_
  refine s_aload_n o dX3_run_5 rfl 0 rfl ?_
  refine s_iload_n o dX3_run_6 rfl 2 rfl ?_
  refine r_putf vI rfl o cf_X3_isEager (Or.inl (lw_all_tbl q348)) dX3_run_7 (Or.inl rfl) hl2 ty_boolean ?_
  refine s_aload_n o dX3_run_10 rfl 0 rfl ?_
  refine s_iload_n o dX3_run_11 rfl 3 rfl ?_
  refine r_putf vI rfl o cf_X3_most (Or.inl (lw_all_tbl q349)) dX3_run_12 (Or.inl rfl) hl3 ty_int ?_
  refine s_aload_n o dX3_run_15 rfl 0 rfl ?_
  refine s_cvC (d := d + 207) (As := []) (st := []) (c := 3) o (sc_X3_clear (mg Γ) (d + 207) ts l0) mw_X3_clear rfl (Or.inl (lw_all_tbl q2154)) rfl (lw_all_tbl q737) (lw_all_tbl q736) wt_0 rfl dX3_run_16 rfl (rs := fun _ => []) (fun _ => rfl) (fun _ _ => ?_)
  refine s_iconst o dX3_run_19 ?_
  refine r_istore o dX3_run_20 rfl ⟨(Nat.ne_of_beq_eq_false rfl), (fun _ => (vA_cat (mg Γ) l0)), ⟨(Nat.ne_of_beq_eq_false rfl), (fun _ => (vA_cat (mg Γ) l1)), ⟨(Nat.ne_of_beq_eq_false rfl), (fun _ => rfl), ⟨(Nat.ne_of_beq_eq_false rfl), (fun _ => rfl), trivial⟩⟩⟩⟩ ?_
  refine r_to [(0, vA (mg Γ) l0), (1, vA (mg Γ) l1), (4, vI 0)] [1, 2, 0] rfl ?_
  refine sc_X3_run_22 o _ ?_ l0 l1 0 (r32 rfl)
  · intro v1 v2
    refine s_aload_n o dX3_run_84 rfl 0 rfl ?_
    refine s_aload_n o dX3_run_85 rfl 0 rfl ?_
    refine r_getf (vA (mg Γ)) rfl o cf_X3_forcing (Or.inl (lw_all_tbl q332)) dX3_run_86 (fun v3 hv3 => ?_)
    refine s_iconst o dX3_run_89 ?_
    refine s_cvC (d := d + 207) (As := [vA (mg Γ) v3, vI 0]) (st := []) (c := 3) o (sc_X3_again (mg Γ) (d + 206) ts v1 v3 0 (r32 rfl)) mw_X3_again rfl (Or.inl (lw_all_tbl q2174)) rfl (lw_all_tbl q2176) (lw_all_tbl q2175) wt_0 rfl dX3_run_90 rfl (rs := fun _ => []) (fun _ => rfl) (fun _ _ => ?_)
    refine s_aload_n o dX3_run_93 rfl 0 rfl ?_
    refine s_aload_n o dX3_run_94 rfl 0 rfl ?_
    refine r_getf (vA (mg Γ)) rfl o cf_X3_wholes (Or.inl (lw_all_tbl q350)) dX3_run_95 (fun v4 hv4 => ?_)
    refine s_aload_n o dX3_run_98 rfl 1 rfl ?_
    refine r_getf vI rfl o cf_X15_main (Or.inr (Or.inl ⟨_, q1071⟩)) dX3_run_99 (fun v5 hv5 => ?_)
    refine r_lald o hv5 dX3_run_102 (fun v6 hv6 => ?_)
    refine s_cvC (d := d + 207) (As := [vJ v6]) (st := []) (c := 3) o (sc_X3_enter (mg Γ) (d + 203) ts v1 v6 hv6) mw_X3_enter rfl (Or.inl (lw_all_tbl q2179)) rfl (lw_all_tbl q2181) (lw_all_tbl q2180) wt_0 rfl dX3_run_103 rfl (rs := fun _ => []) (fun _ => rfl) (fun _ _ => ?_)
    refine r_to [(0, vA (mg Γ) v1)] [0] rfl ?_
    refine sc_X3_run_106 o _ ?_ v1
    · exact s_vret o rfl dX3_run_164 (fun _ hh => hh)
theorem dX10_init_0 : decode cX10_init 0 = .ok (.aload_n 0, 1) := by decide +kernel
theorem dX10_init_1 : decode cX10_init 1 = .ok (.invokespecial 1, 3) := by decide +kernel
theorem dX10_init_4 : decode cX10_init 4 = .ok (.return_, 1) := by decide +kernel
theorem mw_X10_init : MW yX10_init (Cond.code yX10_init cX10_init 1 (Option.none : Option Jvm.ClassFile.FieldType)) cX10_init 1 (Option.none : Option Jvm.ClassFile.FieldType) 0 := ⟨rfl, ⟨(lw_all_tbl q318), rfl, (lw_all_tbl q172)⟩, rfl, ⟨by decide, by decide⟩, by decide +kernel⟩
noncomputable def c_X10_init (l0 : Int) : Mo CH Int :=
  bnd (c_X5_init l0) fun _ =>
  pr 0
theorem sc_X10_init (g : gC) (d : Nat) (ts : TS) (l0 : Int) (hl0 : 0 < l0) : SF g yX10_init (Cond.code yX10_init cX10_init 1 (Option.none : Option Jvm.ClassFile.FieldType)) (Option.none : Option Jvm.ClassFile.FieldType) (d + 3) [vA g l0] (fun h => (h, ts)) (c_X10_init l0) := by
  refine SF.of (lv := [(0, vA g l0)]) (by decide) (wt_A wt_0) rfl (by simp only [la_A, la_I, la_J, la_0]) (fun Γ hg hnm o => ?_)
  subst hg
  have o : Ok Γ "LazyForge$Force" cX10_init 1 (Option.none : Option Jvm.ClassFile.FieldType) (d + 3) := o
  have hnm : (xMe (mx Γ)).name = "<init>" := hnm
  unfold c_X10_init
  refine s_aload_n o dX10_init_0 rfl 0 rfl ?_
  refine s_ci (d := d + 2) (As := []) (st := []) o (sc_X5_init (mg Γ) d ts l0 hl0) mw_X5_init rfl (Or.inr ⟨_, q319⟩) (lw_all_tbl q249) rfl hl0 wt_0 rfl dX10_init_1 rfl (fun _ => ?_)
  exact s_vret o rfl dX10_init_4 (fun _ hh => hh)
theorem dX3_init_0 : decode cX3_init 0 = .ok (.aload_n 0, 1) := by decide +kernel
theorem dX3_init_1 : decode cX3_init 1 = .ok (.invokespecial 3, 3) := by decide +kernel
theorem dX3_init_4 : decode cX3_init 4 = .ok (.aload_n 0, 1) := by decide +kernel
theorem dX3_init_5 : decode cX3_init 5 = .ok (.new 9, 3) := by decide +kernel
theorem dX3_init_8 : decode cX3_init 8 = .ok (.dup, 1) := by decide +kernel
theorem dX3_init_9 : decode cX3_init 9 = .ok (.invokespecial 11, 3) := by decide +kernel
theorem dX3_init_12 : decode cX3_init 12 = .ok (.putfield 12, 3) := by decide +kernel
theorem dX3_init_15 : decode cX3_init 15 = .ok (.aload_n 0, 1) := by decide +kernel
theorem dX3_init_16 : decode cX3_init 16 = .ok (.new 18, 3) := by decide +kernel
theorem dX3_init_19 : decode cX3_init 19 = .ok (.dup, 1) := by decide +kernel
theorem dX3_init_20 : decode cX3_init 20 = .ok (.invokespecial 20, 3) := by decide +kernel
theorem dX3_init_23 : decode cX3_init 23 = .ok (.putfield 21, 3) := by decide +kernel
theorem dX3_init_26 : decode cX3_init 26 = .ok (.aload_n 0, 1) := by decide +kernel
theorem dX3_init_27 : decode cX3_init 27 = .ok (.new 24, 3) := by decide +kernel
theorem dX3_init_30 : decode cX3_init 30 = .ok (.dup, 1) := by decide +kernel
theorem dX3_init_31 : decode cX3_init 31 = .ok (.invokespecial 26, 3) := by decide +kernel
theorem dX3_init_34 : decode cX3_init 34 = .ok (.putfield 27, 3) := by decide +kernel
theorem dX3_init_37 : decode cX3_init 37 = .ok (.aload_n 0, 1) := by decide +kernel
theorem dX3_init_38 : decode cX3_init 38 = .ok (.new 30, 3) := by decide +kernel
theorem dX3_init_41 : decode cX3_init 41 = .ok (.dup, 1) := by decide +kernel
theorem dX3_init_42 : decode cX3_init 42 = .ok (.invokespecial 32, 3) := by decide +kernel
theorem dX3_init_45 : decode cX3_init 45 = .ok (.putfield 33, 3) := by decide +kernel
theorem dX3_init_48 : decode cX3_init 48 = .ok (.aload_n 0, 1) := by decide +kernel
theorem dX3_init_49 : decode cX3_init 49 = .ok (.new 36, 3) := by decide +kernel
theorem dX3_init_52 : decode cX3_init 52 = .ok (.dup, 1) := by decide +kernel
theorem dX3_init_53 : decode cX3_init 53 = .ok (.invokespecial 38, 3) := by decide +kernel
theorem dX3_init_56 : decode cX3_init 56 = .ok (.putfield 39, 3) := by decide +kernel
theorem dX3_init_59 : decode cX3_init 59 = .ok (.aload_n 0, 1) := by decide +kernel
theorem dX3_init_60 : decode cX3_init 60 = .ok (.sipush 4000, 3) := by decide +kernel
theorem dX3_init_63 : decode cX3_init 63 = .ok (.newarray .long, 2) := by decide +kernel
theorem dX3_init_65 : decode cX3_init 65 = .ok (.putfield 42, 3) := by decide +kernel
theorem dX3_init_68 : decode cX3_init 68 = .ok (.aload_n 0, 1) := by decide +kernel
theorem dX3_init_69 : decode cX3_init 69 = .ok (.sipush 256, 3) := by decide +kernel
theorem dX3_init_72 : decode cX3_init 72 = .ok (.anewarray 46, 3) := by decide +kernel
theorem dX3_init_75 : decode cX3_init 75 = .ok (.putfield 48, 3) := by decide +kernel
theorem dX3_init_78 : decode cX3_init 78 = .ok (.aload_n 0, 1) := by decide +kernel
theorem dX3_init_79 : decode cX3_init 79 = .ok (.sipush 256, 3) := by decide +kernel
theorem dX3_init_82 : decode cX3_init 82 = .ok (.newarray .int, 2) := by decide +kernel
theorem dX3_init_84 : decode cX3_init 84 = .ok (.putfield 52, 3) := by decide +kernel
theorem dX3_init_87 : decode cX3_init 87 = .ok (.aload_n 0, 1) := by decide +kernel
theorem dX3_init_88 : decode cX3_init 88 = .ok (.sipush 256, 3) := by decide +kernel
theorem dX3_init_91 : decode cX3_init 91 = .ok (.newarray .long, 2) := by decide +kernel
theorem dX3_init_93 : decode cX3_init 93 = .ok (.putfield 56, 3) := by decide +kernel
theorem dX3_init_96 : decode cX3_init 96 = .ok (.aload_n 0, 1) := by decide +kernel
theorem dX3_init_97 : decode cX3_init 97 = .ok (.sipush 256, 3) := by decide +kernel
theorem dX3_init_100 : decode cX3_init 100 = .ok (.newarray .long, 2) := by decide +kernel
theorem dX3_init_102 : decode cX3_init 102 = .ok (.putfield 59, 3) := by decide +kernel
theorem dX3_init_105 : decode cX3_init 105 = .ok (.aload_n 0, 1) := by decide +kernel
theorem dX3_init_106 : decode cX3_init 106 = .ok (.sipush 256, 3) := by decide +kernel
theorem dX3_init_109 : decode cX3_init 109 = .ok (.newarray .int, 2) := by decide +kernel
theorem dX3_init_111 : decode cX3_init 111 = .ok (.putfield 62, 3) := by decide +kernel
theorem dX3_init_114 : decode cX3_init 114 = .ok (.aload_n 0, 1) := by decide +kernel
theorem dX3_init_115 : decode cX3_init 115 = .ok (.sipush 1000, 3) := by decide +kernel
theorem dX3_init_118 : decode cX3_init 118 = .ok (.newarray .long, 2) := by decide +kernel
theorem dX3_init_120 : decode cX3_init 120 = .ok (.putfield 65, 3) := by decide +kernel
theorem dX3_init_123 : decode cX3_init 123 = .ok (.aload_n 0, 1) := by decide +kernel
theorem dX3_init_124 : decode cX3_init 124 = .ok (.sipush 1000, 3) := by decide +kernel
theorem dX3_init_127 : decode cX3_init 127 = .ok (.newarray .int, 2) := by decide +kernel
theorem dX3_init_129 : decode cX3_init 129 = .ok (.putfield 68, 3) := by decide +kernel
theorem dX3_init_132 : decode cX3_init 132 = .ok (.return_, 1) := by decide +kernel
theorem mw_X3_init : MW yX3_init (Cond.code yX3_init cX3_init 1 (Option.none : Option Jvm.ClassFile.FieldType)) cX3_init 1 (Option.none : Option Jvm.ClassFile.FieldType) 0 := ⟨rfl, ⟨(lw_all_tbl q241), rfl, (lw_all_tbl q165)⟩, rfl, ⟨by decide, by decide⟩, by decide +kernel⟩
noncomputable def c_X3_init (l0 : Int) : Mo CH Int :=
  bnd (newo 6) fun v1 =>
  bnd (c_X6_init v1) fun _ =>
  bnd (pf [103] 0 l0 v1) fun _ =>
  bnd (newo 7) fun v2 =>
  bnd (c_X7_init v2) fun _ =>
  bnd (pf [103] 1 l0 v2) fun _ =>
  bnd (newo 8) fun v3 =>
  bnd (c_X8_init v3) fun _ =>
  bnd (pf [103] 2 l0 v3) fun _ =>
  bnd (newo 9) fun v4 =>
  bnd (c_X9_init v4) fun _ =>
  bnd (pf [103] 3 l0 v4) fun _ =>
  bnd (newo 10) fun v5 =>
  bnd (c_X10_init v5) fun _ =>
  bnd (pf [103] 4 l0 v5) fun _ =>
  bnd (newa 1 4000) fun v6 =>
  bnd (pf [103] 5 l0 v6) fun _ =>
  bnd (newa 5 256) fun v7 =>
  bnd (pf [103] 6 l0 v7) fun _ =>
  bnd (newa 0 256) fun v8 =>
  bnd (pf [103] 7 l0 v8) fun _ =>
  bnd (newa 1 256) fun v9 =>
  bnd (pf [103] 9 l0 v9) fun _ =>
  bnd (newa 1 256) fun v10 =>
  bnd (pf [103] 11 l0 v10) fun _ =>
  bnd (newa 0 256) fun v11 =>
  bnd (pf [103] 14 l0 v11) fun _ =>
  bnd (newa 1 1000) fun v12 =>
  bnd (pf [103] 19 l0 v12) fun _ =>
  bnd (newa 0 1000) fun v13 =>
  bnd (pf [103] 20 l0 v13) fun _ =>
  pr 0
theorem sc_X3_init (g : gC) (d : Nat) (ts : TS) (l0 : Int) (hl0 : 0 < l0) : SF g yX3_init (Cond.code yX3_init cX3_init 1 (Option.none : Option Jvm.ClassFile.FieldType)) (Option.none : Option Jvm.ClassFile.FieldType) (d + 4) [vA g l0] (fun h => (h, ts)) (c_X3_init l0) := by
  refine SF.of (lv := [(0, vA g l0)]) (by decide) (wt_A wt_0) rfl (by simp only [la_A, la_I, la_J, la_0]) (fun Γ hg hnm o => ?_)
  subst hg
  have o : Ok Γ "LazyForge$Machine" cX3_init 1 (Option.none : Option Jvm.ClassFile.FieldType) (d + 4) := o
  have hnm : (xMe (mx Γ)).name = "<init>" := hnm
  unfold c_X3_init
  refine s_aload_n o dX3_init_0 rfl 0 rfl ?_
  refine s_obj (d := d + 3) o (lw_all_tbl q242) hl0 wt_0 rfl dX3_init_1 (lw_all_tbl q216) (lw_all_tbl q217) ?_
  refine s_aload_n o dX3_init_4 rfl 0 rfl ?_
  refine s_new o mk_6 (lw_all_tbl q243) dX3_init_5 (fun v1 hv1 => ?_)
  refine s_dup o dX3_init_8 (vA_cat (mg Γ) v1) ?_
  refine s_ci (d := d + 3) (As := []) (st := [vA (mg Γ) v1, vA (mg Γ) l0]) o (sc_X6_init (mg Γ) d ts v1 hv1) mw_X6_init rfl (Or.inr ⟨_, q245⟩) (lw_all_tbl q246) rfl hv1 (wt_A (wt_A wt_0)) rfl dX3_init_9 rfl (fun _ => ?_)
  refine r_putf (vA (mg Γ)) rfl o cf_X3_update (Or.inl (lw_all_tbl q328)) dX3_init_12 (Or.inr ⟨hnm, rfl, (lw_all_tbl q328)⟩) trivial (ty_object _) ?_
  refine s_aload_n o dX3_init_15 rfl 0 rfl ?_
  refine s_new o mk_7 (lw_all_tbl q278) dX3_init_16 (fun v2 hv2 => ?_)
  refine s_dup o dX3_init_19 (vA_cat (mg Γ) v2) ?_
  refine s_ci (d := d + 3) (As := []) (st := [vA (mg Γ) v2, vA (mg Γ) l0]) o (sc_X7_init (mg Γ) d ts v2 hv2) mw_X7_init rfl (Or.inr ⟨_, q280⟩) (lw_all_tbl q281) rfl hv2 (wt_A (wt_A wt_0)) rfl dX3_init_20 rfl (fun _ => ?_)
  refine r_putf (vA (mg Γ)) rfl o cf_X3_leaving (Or.inl (lw_all_tbl q329)) dX3_init_23 (Or.inr ⟨hnm, rfl, (lw_all_tbl q329)⟩) trivial (ty_object _) ?_
  refine s_aload_n o dX3_init_26 rfl 0 rfl ?_
  refine s_new o mk_8 (lw_all_tbl q290) dX3_init_27 (fun v3 hv3 => ?_)
  refine s_dup o dX3_init_30 (vA_cat (mg Γ) v3) ?_
  refine s_ci (d := d + 3) (As := []) (st := [vA (mg Γ) v3, vA (mg Γ) l0]) o (sc_X8_init (mg Γ) d ts v3 hv3) mw_X8_init rfl (Or.inr ⟨_, q292⟩) (lw_all_tbl q293) rfl hv3 (wt_A (wt_A wt_0)) rfl dX3_init_31 rfl (fun _ => ?_)
  refine r_putf (vA (mg Γ)) rfl o cf_X3_applied (Or.inl (lw_all_tbl q330)) dX3_init_34 (Or.inr ⟨hnm, rfl, (lw_all_tbl q330)⟩) trivial (ty_object _) ?_
  refine s_aload_n o dX3_init_37 rfl 0 rfl ?_
  refine s_new o mk_9 (lw_all_tbl q302) dX3_init_38 (fun v4 hv4 => ?_)
  refine s_dup o dX3_init_41 (vA_cat (mg Γ) v4) ?_
  refine s_ci (d := d + 3) (As := []) (st := [vA (mg Γ) v4, vA (mg Γ) l0]) o (sc_X9_init (mg Γ) d ts v4 hv4) mw_X9_init rfl (Or.inr ⟨_, q304⟩) (lw_all_tbl q305) rfl hv4 (wt_A (wt_A wt_0)) rfl dX3_init_42 rfl (fun _ => ?_)
  refine r_putf (vA (mg Γ)) rfl o cf_X3_entering (Or.inl (lw_all_tbl q331)) dX3_init_45 (Or.inr ⟨hnm, rfl, (lw_all_tbl q331)⟩) trivial (ty_object _) ?_
  refine s_aload_n o dX3_init_48 rfl 0 rfl ?_
  refine s_new o mk_10 (lw_all_tbl q314) dX3_init_49 (fun v5 hv5 => ?_)
  refine s_dup o dX3_init_52 (vA_cat (mg Γ) v5) ?_
  refine s_ci (d := d + 3) (As := []) (st := [vA (mg Γ) v5, vA (mg Γ) l0]) o (sc_X10_init (mg Γ) d ts v5 hv5) mw_X10_init rfl (Or.inr ⟨_, q316⟩) (lw_all_tbl q317) rfl hv5 (wt_A (wt_A wt_0)) rfl dX3_init_53 rfl (fun _ => ?_)
  refine r_putf (vA (mg Γ)) rfl o cf_X3_forcing (Or.inl (lw_all_tbl q332)) dX3_init_56 (Or.inr ⟨hnm, rfl, (lw_all_tbl q332)⟩) trivial (ty_object _) ?_
  refine s_aload_n o dX3_init_59 rfl 0 rfl ?_
  refine s_sipush o dX3_init_60 rfl ?_
  refine s_newa (kd := 1) o (by decide) rfl (by decide) (o.ra (by decide)) (lw_all_tbl q438) (r32 rfl) dX3_init_63 (fun v6 hv6 => ?_)
  refine r_putf (vA (mg Γ)) rfl o cf_X3_cells (Or.inl (lw_all_tbl q333)) dX3_init_65 (Or.inr ⟨hnm, rfl, (lw_all_tbl q333)⟩) trivial (ty_array _) ?_
  refine s_aload_n o dX3_init_68 rfl 0 rfl ?_
  refine s_sipush o dX3_init_69 rfl ?_
  refine s_anew (kd := 5) o (by decide) (Or.inl rfl) (lw_all_tbl q326) ao_5 (r32 rfl) dX3_init_72 (fun v7 hv7 => ?_)
  refine r_putf (vA (mg Γ)) rfl o cf_X3_waiting (Or.inl (lw_all_tbl q335)) dX3_init_75 (Or.inl rfl) trivial (ty_array _) ?_
  refine s_aload_n o dX3_init_78 rfl 0 rfl ?_
  refine s_sipush o dX3_init_79 rfl ?_
  refine s_newa (kd := 0) o (by decide) rfl (by decide) (o.ra (by decide)) (lw_all_tbl q439) (r32 rfl) dX3_init_82 (fun v8 hv8 => ?_)
  refine r_putf (vA (mg Γ)) rfl o cf_X3_states (Or.inl (lw_all_tbl q336)) dX3_init_84 (Or.inl rfl) trivial (ty_array _) ?_
  refine s_aload_n o dX3_init_87 rfl 0 rfl ?_
  refine s_sipush o dX3_init_88 rfl ?_
  refine s_newa (kd := 1) o (by decide) rfl (by decide) (o.ra (by decide)) (lw_all_tbl q438) (r32 rfl) dX3_init_91 (fun v9 hv9 => ?_)
  refine r_putf (vA (mg Γ)) rfl o cf_X3_values (Or.inl (lw_all_tbl q338)) dX3_init_93 (Or.inl rfl) trivial (ty_array _) ?_
  refine s_aload_n o dX3_init_96 rfl 0 rfl ?_
  refine s_sipush o dX3_init_97 rfl ?_
  refine s_newa (kd := 1) o (by decide) rfl (by decide) (o.ra (by decide)) (lw_all_tbl q438) (r32 rfl) dX3_init_100 (fun v10 hv10 => ?_)
  refine r_putf (vA (mg Γ)) rfl o cf_X3_slots (Or.inl (lw_all_tbl q340)) dX3_init_102 (Or.inl rfl) trivial (ty_array _) ?_
  refine s_aload_n o dX3_init_105 rfl 0 rfl ?_
  refine s_sipush o dX3_init_106 rfl ?_
  refine s_newa (kd := 0) o (by decide) rfl (by decide) (o.ra (by decide)) (lw_all_tbl q439) (r32 rfl) dX3_init_109 (fun v11 hv11 => ?_)
  refine r_putf (vA (mg Γ)) rfl o cf_X3_bases (Or.inl (lw_all_tbl q343)) dX3_init_111 (Or.inl rfl) trivial (ty_array _) ?_
  refine s_aload_n o dX3_init_114 rfl 0 rfl ?_
  refine s_sipush o dX3_init_115 rfl ?_
  refine s_newa (kd := 1) o (by decide) rfl (by decide) (o.ra (by decide)) (lw_all_tbl q438) (r32 rfl) dX3_init_118 (fun v12 hv12 => ?_)
  refine r_putf (vA (mg Γ)) rfl o cf_X3_wholes (Or.inl (lw_all_tbl q350)) dX3_init_120 (Or.inr ⟨hnm, rfl, (lw_all_tbl q350)⟩) trivial (ty_array _) ?_
  refine s_aload_n o dX3_init_123 rfl 0 rfl ?_
  refine s_sipush o dX3_init_124 rfl ?_
  refine s_newa (kd := 0) o (by decide) rfl (by decide) (o.ra (by decide)) (lw_all_tbl q439) (r32 rfl) dX3_init_127 (fun v13 hv13 => ?_)
  refine r_putf (vA (mg Γ)) rfl o cf_X3_row (Or.inl (lw_all_tbl q351)) dX3_init_129 (Or.inr ⟨hnm, rfl, (lw_all_tbl q351)⟩) trivial (ty_array _) ?_
  exact s_vret o rfl dX3_init_132 (fun _ hh => hh)
theorem dJ5_isLatin1_0 : decode cJ5_isLatin1 0 = .ok (.getstatic 38, 3) := by decide +kernel
theorem dJ5_isLatin1_3 : decode cJ5_isLatin1 3 = .ok (.ifCond .eq 14, 3) := by decide +kernel
theorem dJ5_isLatin1_6 : decode cJ5_isLatin1 6 = .ok (.aload_n 0, 1) := by decide +kernel
theorem dJ5_isLatin1_7 : decode cJ5_isLatin1 7 = .ok (.getfield 15, 3) := by decide +kernel
theorem dJ5_isLatin1_10 : decode cJ5_isLatin1 10 = .ok (.ifCond .ne 7, 3) := by decide +kernel
theorem dJ5_isLatin1_13 : decode cJ5_isLatin1 13 = .ok (.iconst 1, 1) := by decide +kernel
theorem dJ5_isLatin1_14 : decode cJ5_isLatin1 14 = .ok (.goto 4, 3) := by decide +kernel
theorem dJ5_isLatin1_17 : decode cJ5_isLatin1 17 = .ok (.iconst 0, 1) := by decide +kernel
theorem dJ5_isLatin1_18 : decode cJ5_isLatin1 18 = .ok (.ireturn, 1) := by decide +kernel
theorem mw_J5_isLatin1 : MW yJ5_isLatin1 (Cond.code yJ5_isLatin1 cJ5_isLatin1 1 (Option.some Jvm.ClassFile.FieldType.boolean)) cJ5_isLatin1 1 (Option.some Jvm.ClassFile.FieldType.boolean) 0 := ⟨rfl, ⟨(lw_all_tbl q617), rfl, (lw_all_tbl q181)⟩, rfl, ⟨by decide, by decide⟩, by decide +kernel⟩
noncomputable def c_J5_isLatin1 (l0 : Int) : Mo CH Int :=
  if (1 : Int) = 0 then
    pr 0
  else
    bnd (gsc l0) fun v1 =>
    if ¬ v1 = 0 then
      pr 0
    else
      pr 1
theorem sc_J5_isLatin1 (g : gC) (d : Nat) (ts : TS) (l0 : Int) : SF g yJ5_isLatin1 (Cond.code yJ5_isLatin1 cJ5_isLatin1 1 (Option.some Jvm.ClassFile.FieldType.boolean)) (Option.some Jvm.ClassFile.FieldType.boolean) (d + 0) [vA g l0] (fun h => (h, ts)) (c_J5_isLatin1 l0) := by
  refine SF.of (lv := [(0, vA g l0)]) (by decide) (wt_A wt_0) rfl (by simp only [la_A, la_I, la_J, la_0]) (fun Γ hg hnm o => ?_)
  subst hg
  have o : Ok Γ "java/lang/String" cJ5_isLatin1 1 (Option.some Jvm.ClassFile.FieldType.boolean) (d + 0) := o
  unfold c_J5_isLatin1
  refine s_gsZ o (lw_all_tbl q608) dJ5_isLatin1_0 ?_
  refine s_if_eq (tgt := 17) o dJ5_isLatin1_3 (by decide) (r32 rfl) ?_ ?_
  · refine s_iconst o dJ5_isLatin1_17 ?_
    exact s_iret o rfl i_boolean (Or.inl rfl) dJ5_isLatin1_18 (fun _ hh => hh)
  · refine s_aload_n o dJ5_isLatin1_6 rfl 0 rfl ?_
    refine s_gsc o (lw_all_tbl q3535) dJ5_isLatin1_7 (fun v1 hv1 => ?_)
    refine s_if_ne (tgt := 17) o dJ5_isLatin1_10 (by decide) (rB hv1) ?_ ?_
    · refine s_iconst o dJ5_isLatin1_17 ?_
      exact s_iret o rfl i_boolean (Or.inl rfl) dJ5_isLatin1_18 (fun _ hh => hh)
    · refine s_iconst o dJ5_isLatin1_13 ?_
      refine s_goto (tgt := 18) o dJ5_isLatin1_14 (by decide) ?_
      exact s_iret o rfl i_boolean (Or.inr rfl) dJ5_isLatin1_18 (fun _ hh => hh)
