/-! PRINTED: the component, 221 to 252 -/
set_option maxRecDepth 100000
theorem dX12_init_0 : decode cX12_init 0 = .ok (.aload_n 0, 1) := by decide +kernel
theorem dX12_init_1 : decode cX12_init 1 = .ok (.invokespecial 3, 3) := by decide +kernel
theorem dX12_init_4 : decode cX12_init 4 = .ok (.aload_n 0, 1) := by decide +kernel
theorem dX12_init_5 : decode cX12_init 5 = .ok (.iconst (-1), 1) := by decide +kernel
theorem dX12_init_6 : decode cX12_init 6 = .ok (.putfield 9, 3) := by decide +kernel
theorem dX12_init_9 : decode cX12_init 9 = .ok (.aload_n 0, 1) := by decide +kernel
theorem dX12_init_10 : decode cX12_init 10 = .ok (.bipush 30, 2) := by decide +kernel
theorem dX12_init_12 : decode cX12_init 12 = .ok (.newarray .long, 2) := by decide +kernel
theorem dX12_init_14 : decode cX12_init 14 = .ok (.putfield 15, 3) := by decide +kernel
theorem dX12_init_17 : decode cX12_init 17 = .ok (.aload_n 0, 1) := by decide +kernel
theorem dX12_init_18 : decode cX12_init 18 = .ok (.bipush 30, 2) := by decide +kernel
theorem dX12_init_20 : decode cX12_init 20 = .ok (.newarray .int, 2) := by decide +kernel
theorem dX12_init_22 : decode cX12_init 22 = .ok (.putfield 19, 3) := by decide +kernel
theorem dX12_init_25 : decode cX12_init 25 = .ok (.aload_n 0, 1) := by decide +kernel
theorem dX12_init_26 : decode cX12_init 26 = .ok (.bipush 30, 2) := by decide +kernel
theorem dX12_init_28 : decode cX12_init 28 = .ok (.newarray .long, 2) := by decide +kernel
theorem dX12_init_30 : decode cX12_init 30 = .ok (.putfield 23, 3) := by decide +kernel
theorem dX12_init_33 : decode cX12_init 33 = .ok (.aload_n 0, 1) := by decide +kernel
theorem dX12_init_34 : decode cX12_init 34 = .ok (.bipush 30, 2) := by decide +kernel
theorem dX12_init_36 : decode cX12_init 36 = .ok (.newarray .int, 2) := by decide +kernel
theorem dX12_init_38 : decode cX12_init 38 = .ok (.putfield 26, 3) := by decide +kernel
theorem dX12_init_41 : decode cX12_init 41 = .ok (.aload_n 0, 1) := by decide +kernel
theorem dX12_init_42 : decode cX12_init 42 = .ok (.bipush 30, 2) := by decide +kernel
theorem dX12_init_44 : decode cX12_init 44 = .ok (.anewarray 29, 3) := by decide +kernel
theorem dX12_init_47 : decode cX12_init 47 = .ok (.putfield 30, 3) := by decide +kernel
theorem dX12_init_50 : decode cX12_init 50 = .ok (.aload_n 0, 1) := by decide +kernel
theorem dX12_init_51 : decode cX12_init 51 = .ok (.bipush 30, 2) := by decide +kernel
theorem dX12_init_53 : decode cX12_init 53 = .ok (.anewarray 34, 3) := by decide +kernel
theorem dX12_init_56 : decode cX12_init 56 = .ok (.putfield 36, 3) := by decide +kernel
theorem dX12_init_59 : decode cX12_init 59 = .ok (.aload_n 0, 1) := by decide +kernel
theorem dX12_init_60 : decode cX12_init 60 = .ok (.iconst 5, 1) := by decide +kernel
theorem dX12_init_61 : decode cX12_init 61 = .ok (.newarray .long, 2) := by decide +kernel
theorem dX12_init_63 : decode cX12_init 63 = .ok (.putfield 40, 3) := by decide +kernel
theorem dX12_init_66 : decode cX12_init 66 = .ok (.aload_n 0, 1) := by decide +kernel
theorem dX12_init_67 : decode cX12_init 67 = .ok (.aload_n 1, 1) := by decide +kernel
theorem dX12_init_68 : decode cX12_init 68 = .ok (.putfield 43, 3) := by decide +kernel
theorem dX12_init_71 : decode cX12_init 71 = .ok (.aload_n 0, 1) := by decide +kernel
theorem dX12_init_72 : decode cX12_init 72 = .ok (.aload_n 2, 1) := by decide +kernel
theorem dX12_init_73 : decode cX12_init 73 = .ok (.putfield 47, 3) := by decide +kernel
theorem dX12_init_76 : decode cX12_init 76 = .ok (.aload_n 0, 1) := by decide +kernel
theorem dX12_init_77 : decode cX12_init 77 = .ok (.iload_n 3, 1) := by decide +kernel
theorem dX12_init_78 : decode cX12_init 78 = .ok (.putfield 51, 3) := by decide +kernel
theorem dX12_init_81 : decode cX12_init 81 = .ok (.aload_n 0, 1) := by decide +kernel
theorem dX12_init_82 : decode cX12_init 82 = .ok (.ldc 54, 2) := by decide +kernel
theorem dX12_init_84 : decode cX12_init 84 = .ok (.invokestatic 56, 3) := by decide +kernel
theorem dX12_init_87 : decode cX12_init 87 = .ok (.iconst 0, 1) := by decide +kernel
theorem dX12_init_88 : decode cX12_init 88 = .ok (.invokevirtual 60, 3) := by decide +kernel
theorem dX12_init_91 : decode cX12_init 91 = .ok (.aload_n 0, 1) := by decide +kernel
theorem dX12_init_92 : decode cX12_init 92 = .ok (.ldc 64, 2) := by decide +kernel
theorem dX12_init_94 : decode cX12_init 94 = .ok (.invokestatic 56, 3) := by decide +kernel
theorem dX12_init_97 : decode cX12_init 97 = .ok (.iconst 0, 1) := by decide +kernel
theorem dX12_init_98 : decode cX12_init 98 = .ok (.invokevirtual 60, 3) := by decide +kernel
theorem dX12_init_101 : decode cX12_init 101 = .ok (.return_, 1) := by decide +kernel
theorem mw_X12_init : MW yX12_init (Cond.code yX12_init cX12_init 4 (Option.none : Option Jvm.ClassFile.FieldType)) cX12_init 4 (Option.none : Option Jvm.ClassFile.FieldType) 3 := ⟨rfl, ⟨(lw_all_tbl q590), rfl, (lw_all_tbl q180)⟩, rfl, ⟨by decide, by decide⟩, by decide +kernel⟩
noncomputable def c_X12_init (l0 : Int) (l1 : Int) (l2 : Int) (l3 : Int) : Mo CH Int :=
  bnd (pf [112] 10 l0 (-1)) fun _ =>
  bnd (newa 1 30) fun v1 =>
  bnd (pf [112] 13 l0 v1) fun _ =>
  bnd (newa 0 30) fun v2 =>
  bnd (pf [112] 14 l0 v2) fun _ =>
  bnd (newa 1 30) fun v3 =>
  bnd (pf [112] 16 l0 v3) fun _ =>
  bnd (newa 0 30) fun v4 =>
  bnd (pf [112] 17 l0 v4) fun _ =>
  bnd (newa 8 30) fun v5 =>
  bnd (pf [112] 18 l0 v5) fun _ =>
  bnd (newa 6 30) fun v6 =>
  bnd (pf [112] 19 l0 v6) fun _ =>
  bnd (newa 1 5) fun v7 =>
  bnd (pf [112] 22 l0 v7) fun _ =>
  bnd (pf [112] 0 l0 l1) fun _ =>
  bnd (pf [112] 1 l0 l2) fun _ =>
  bnd (pf [112] 2 l0 l3) fun _ =>
  bnd (c_X12_wordOf (-1)) fun v8 =>
  bnd (isk 112 l0) fun _ =>
  bnd (c_X12_newConstructor l0 v8 0) fun _ =>
  bnd (c_X12_wordOf (-2)) fun v9 =>
  bnd (isk 112 l0) fun _ =>
  bnd (c_X12_newConstructor l0 v9 0) fun _ =>
  pr 0
theorem sc_X12_init (g : gC) (d : Nat) (ts : TS) (l0 : Int) (l1 : Int) (l2 : Int) (l3 : Int) (hl0 : 0 < l0) (hl3 : R32 l3) : SF g yX12_init (Cond.code yX12_init cX12_init 4 (Option.none : Option Jvm.ClassFile.FieldType)) (Option.none : Option Jvm.ClassFile.FieldType) (d + 5) [vA g l0, vA g l1, vA g l2, vI l3] (fun h => (h, ts)) (c_X12_init l0 l1 l2 l3) := by
  refine SF.of (lv := [(0, vA g l0), (1, vA g l1), (2, vA g l2), (3, vI l3)]) (by decide) (wt_A (wt_A (wt_A (wt_I wt_0)))) rfl (by simp only [la_A, la_I, la_J, la_0]) (fun Γ hg hnm o => ?_)
  subst hg
  have o : Ok Γ "LazyForge$Reader" cX12_init 4 (Option.none : Option Jvm.ClassFile.FieldType) (d + 5) := o
  have hnm : (xMe (mx Γ)).name = "<init>" := hnm
  unfold c_X12_init
  refine s_aload_n o dX12_init_0 rfl 0 rfl ?_
  refine s_obj (d := d + 4) o (lw_all_tbl q591) hl0 wt_0 rfl dX12_init_1 (lw_all_tbl q216) (lw_all_tbl q217) ?_
  refine s_aload_n o dX12_init_4 rfl 0 rfl ?_
  refine s_iconst o dX12_init_5 ?_
  refine r_putf vI rfl o cf_X12_faultPlace (Or.inl (lw_all_tbl q664)) dX12_init_6 (Or.inl rfl) (r32 rfl) ty_int ?_
  refine s_aload_n o dX12_init_9 rfl 0 rfl ?_
  refine s_bipush o dX12_init_10 rfl ?_
  refine s_newa (kd := 1) o (by decide) rfl (by decide) (o.ra (by decide)) (lw_all_tbl q438) (r32 rfl) dX12_init_12 (fun v1 hv1 => ?_)
  refine r_putf (vA (mg Γ)) rfl o cf_X12_constructors (Or.inl (lw_all_tbl q669)) dX12_init_14 (Or.inr ⟨hnm, rfl, (lw_all_tbl q669)⟩) trivial (ty_array _) ?_
  refine s_aload_n o dX12_init_17 rfl 0 rfl ?_
  refine s_bipush o dX12_init_18 rfl ?_
  refine s_newa (kd := 0) o (by decide) rfl (by decide) (o.ra (by decide)) (lw_all_tbl q439) (r32 rfl) dX12_init_20 (fun v2 hv2 => ?_)
  refine r_putf (vA (mg Γ)) rfl o cf_X12_fields (Or.inl (lw_all_tbl q671)) dX12_init_22 (Or.inr ⟨hnm, rfl, (lw_all_tbl q671)⟩) trivial (ty_array _) ?_
  refine s_aload_n o dX12_init_25 rfl 0 rfl ?_
  refine s_bipush o dX12_init_26 rfl ?_
  refine s_newa (kd := 1) o (by decide) rfl (by decide) (o.ra (by decide)) (lw_all_tbl q438) (r32 rfl) dX12_init_28 (fun v3 hv3 => ?_)
  refine r_putf (vA (mg Γ)) rfl o cf_X12_names (Or.inl (lw_all_tbl q675)) dX12_init_30 (Or.inr ⟨hnm, rfl, (lw_all_tbl q675)⟩) trivial (ty_array _) ?_
  refine s_aload_n o dX12_init_33 rfl 0 rfl ?_
  refine s_bipush o dX12_init_34 rfl ?_
  refine s_newa (kd := 0) o (by decide) rfl (by decide) (o.ra (by decide)) (lw_all_tbl q439) (r32 rfl) dX12_init_36 (fun v4 hv4 => ?_)
  refine r_putf (vA (mg Γ)) rfl o cf_X12_places (Or.inl (lw_all_tbl q677)) dX12_init_38 (Or.inr ⟨hnm, rfl, (lw_all_tbl q677)⟩) trivial (ty_array _) ?_
  refine s_aload_n o dX12_init_41 rfl 0 rfl ?_
  refine s_bipush o dX12_init_42 rfl ?_
  refine s_anew (kd := 8) o (by decide) (Or.inr ⟨_, rfl, by decide +kernel⟩) (lw_all_tbl q592) ao_8 (r32 rfl) dX12_init_44 (fun v5 hv5 => ?_)
  refine r_putf (vA (mg Γ)) rfl o cf_X12_parameters (Or.inl (lw_all_tbl q679)) dX12_init_47 (Or.inr ⟨hnm, rfl, (lw_all_tbl q679)⟩) trivial (ty_array _) ?_
  refine s_aload_n o dX12_init_50 rfl 0 rfl ?_
  refine s_bipush o dX12_init_51 rfl ?_
  refine s_anew (kd := 6) o (by decide) (Or.inl rfl) (lw_all_tbl q594) ao_6 (r32 rfl) dX12_init_53 (fun v6 hv6 => ?_)
  refine r_putf (vA (mg Γ)) rfl o cf_X12_bodies (Or.inl (lw_all_tbl q681)) dX12_init_56 (Or.inr ⟨hnm, rfl, (lw_all_tbl q681)⟩) trivial (ty_array _) ?_
  refine s_aload_n o dX12_init_59 rfl 0 rfl ?_
  refine s_iconst o dX12_init_60 ?_
  refine s_newa (kd := 1) o (by decide) rfl (by decide) (o.ra (by decide)) (lw_all_tbl q438) (r32 rfl) dX12_init_61 (fun v7 hv7 => ?_)
  refine r_putf (vA (mg Γ)) rfl o cf_X12_gathered (Or.inl (lw_all_tbl q686)) dX12_init_63 (Or.inr ⟨hnm, rfl, (lw_all_tbl q686)⟩) trivial (ty_array _) ?_
  refine s_aload_n o dX12_init_66 rfl 0 rfl ?_
  refine s_aload_n o dX12_init_67 rfl 1 rfl ?_
  refine r_putf (vA (mg Γ)) rfl o cf_X12_house (Or.inl (lw_all_tbl q653)) dX12_init_68 (Or.inr ⟨hnm, rfl, (lw_all_tbl q653)⟩) trivial (ty_object _) ?_
  refine s_aload_n o dX12_init_71 rfl 0 rfl ?_
  refine s_aload_n o dX12_init_72 rfl 2 rfl ?_
  refine r_putf (vA (mg Γ)) rfl o cf_X12_text (Or.inl (lw_all_tbl q654)) dX12_init_73 (Or.inr ⟨hnm, rfl, (lw_all_tbl q654)⟩) trivial (ty_array _) ?_
  refine s_aload_n o dX12_init_76 rfl 0 rfl ?_
  refine s_iload_n o dX12_init_77 rfl 3 rfl ?_
  refine r_putf vI rfl o cf_X12_size (Or.inl (lw_all_tbl q655)) dX12_init_78 (Or.inr ⟨hnm, rfl, (lw_all_tbl q655)⟩) hl3 ty_int ?_
  refine s_aload_n o dX12_init_81 rfl 0 rfl ?_
  refine s_ldcS (tx := "False") (k := 1) o (by decide +kernel) rfl (by decide) dX12_init_82 ?_
  refine s_cs (d := d + 4) (As := [vA (mg Γ) (-1)]) (st := [vA (mg Γ) l0]) o (sc_X12_wordOf (mg Γ) d ts (-1)) mw_X12_wordOf rfl (Or.inl (lw_all_tbl q597)) (lw_all_tbl q598) (wt_A wt_0) rfl dX12_init_84 rfl (rs := fun r => [vJ r, vA (mg Γ) l0]) (fun _ => rfl) (fun v8 hv8 => ?_)
  refine s_iconst o dX12_init_87 ?_
  refine s_cvC (d := d + 4) (As := [vJ v8, vI 0]) (st := []) (c := 12) o (sc_X12_newConstructor (mg Γ) (d + 4) ts l0 v8 0 (hv8 _ rfl) (r32 rfl)) mw_X12_newConstructor rfl (Or.inl (lw_all_tbl q648)) rfl (lw_all_tbl qs1) (lw_all_tbl q650) wt_0 rfl dX12_init_88 rfl (rs := fun _ => []) (fun _ => rfl) (fun _ _ => ?_)
  refine s_aload_n o dX12_init_91 rfl 0 rfl ?_
  refine s_ldcS (tx := "True") (k := 2) o (by decide +kernel) rfl (by decide) dX12_init_92 ?_
  refine s_cs (d := d + 4) (As := [vA (mg Γ) (-2)]) (st := [vA (mg Γ) l0]) o (sc_X12_wordOf (mg Γ) d ts (-2)) mw_X12_wordOf rfl (Or.inl (lw_all_tbl q597)) (lw_all_tbl q598) (wt_A wt_0) rfl dX12_init_94 rfl (rs := fun r => [vJ r, vA (mg Γ) l0]) (fun _ => rfl) (fun v9 hv9 => ?_)
  refine s_iconst o dX12_init_97 ?_
  refine s_cvC (d := d + 4) (As := [vJ v9, vI 0]) (st := []) (c := 12) o (sc_X12_newConstructor (mg Γ) (d + 4) ts l0 v9 0 (hv9 _ rfl) (r32 rfl)) mw_X12_newConstructor rfl (Or.inl (lw_all_tbl q648)) rfl (lw_all_tbl qs1) (lw_all_tbl q650) wt_0 rfl dX12_init_98 rfl (rs := fun _ => []) (fun _ => rfl) (fun _ _ => ?_)
  exact s_vret o rfl dX12_init_101 (fun _ hh => hh)
theorem dX1_isRaised_0 : decode cX1_isRaised 0 = .ok (.iconst 0, 1) := by decide +kernel
theorem dX1_isRaised_1 : decode cX1_isRaised 1 = .ok (.istore_n 2, 1) := by decide +kernel
theorem dX1_isRaised_2 : decode cX1_isRaised 2 = .ok (.iconst 0, 1) := by decide +kernel
theorem dX1_isRaised_3 : decode cX1_isRaised 3 = .ok (.istore_n 3, 1) := by decide +kernel
theorem dX1_isRaised_4 : decode cX1_isRaised 4 = .ok (.iload_n 3, 1) := by decide +kernel
theorem dX1_isRaised_5 : decode cX1_isRaised 5 = .ok (.iconst 1, 1) := by decide +kernel
theorem dX1_isRaised_6 : decode cX1_isRaised 6 = .ok (.aload_n 0, 1) := by decide +kernel
theorem dX1_isRaised_7 : decode cX1_isRaised 7 = .ok (.invokevirtual 90, 3) := by decide +kernel
theorem dX1_isRaised_10 : decode cX1_isRaised 10 = .ok (.ishl, 1) := by decide +kernel
theorem dX1_isRaised_11 : decode cX1_isRaised 11 = .ok (.if_icmp .ge 91, 3) := by decide +kernel
theorem dX1_isRaised_14 : decode cX1_isRaised 14 = .ok (.aload_n 0, 1) := by decide +kernel
theorem dX1_isRaised_15 : decode cX1_isRaised 15 = .ok (.iload_n 3, 1) := by decide +kernel
theorem dX1_isRaised_16 : decode cX1_isRaised 16 = .ok (.invokevirtual 108, 3) := by decide +kernel
theorem dX1_isRaised_19 : decode cX1_isRaised 19 = .ok (.ifCond .eq 6, 3) := by decide +kernel
theorem dX1_isRaised_22 : decode cX1_isRaised 22 = .ok (.goto 74, 3) := by decide +kernel
theorem dX1_isRaised_25 : decode cX1_isRaised 25 = .ok (.iconst 0, 1) := by decide +kernel
theorem dX1_isRaised_26 : decode cX1_isRaised 26 = .ok (.istore 4, 2) := by decide +kernel
theorem dX1_isRaised_28 : decode cX1_isRaised 28 = .ok (.iload 4, 2) := by decide +kernel
theorem dX1_isRaised_30 : decode cX1_isRaised 30 = .ok (.aload_n 0, 1) := by decide +kernel
theorem dX1_isRaised_31 : decode cX1_isRaised 31 = .ok (.invokevirtual 90, 3) := by decide +kernel
theorem dX1_isRaised_34 : decode cX1_isRaised 34 = .ok (.if_icmp .ge 28, 3) := by decide +kernel
theorem dX1_isRaised_37 : decode cX1_isRaised 37 = .ok (.aload_n 1, 1) := by decide +kernel
theorem dX1_isRaised_38 : decode cX1_isRaised 38 = .ok (.iload 4, 2) := by decide +kernel
theorem dX1_isRaised_40 : decode cX1_isRaised 40 = .ok (.iload_n 3, 1) := by decide +kernel
theorem dX1_isRaised_41 : decode cX1_isRaised 41 = .ok (.iload 4, 2) := by decide +kernel
theorem dX1_isRaised_43 : decode cX1_isRaised 43 = .ok (.ishr, 1) := by decide +kernel
theorem dX1_isRaised_44 : decode cX1_isRaised 44 = .ok (.iconst 1, 1) := by decide +kernel
theorem dX1_isRaised_45 : decode cX1_isRaised 45 = .ok (.iand, 1) := by decide +kernel
theorem dX1_isRaised_46 : decode cX1_isRaised 46 = .ok (.iconst 1, 1) := by decide +kernel
theorem dX1_isRaised_47 : decode cX1_isRaised 47 = .ok (.if_icmp .ne 7, 3) := by decide +kernel
theorem dX1_isRaised_50 : decode cX1_isRaised 50 = .ok (.iconst 1, 1) := by decide +kernel
theorem dX1_isRaised_51 : decode cX1_isRaised 51 = .ok (.goto 4, 3) := by decide +kernel
theorem dX1_isRaised_54 : decode cX1_isRaised 54 = .ok (.iconst 0, 1) := by decide +kernel
theorem dX1_isRaised_55 : decode cX1_isRaised 55 = .ok (.bastore, 1) := by decide +kernel
theorem dX1_isRaised_56 : decode cX1_isRaised 56 = .ok (.iinc 4 1, 3) := by decide +kernel
theorem dX1_isRaised_59 : decode cX1_isRaised 59 = .ok (.goto (-31), 3) := by decide +kernel
theorem dX1_isRaised_62 : decode cX1_isRaised 62 = .ok (.aload_n 0, 1) := by decide +kernel
theorem dX1_isRaised_63 : decode cX1_isRaised 63 = .ok (.getfield 112, 3) := by decide +kernel
theorem dX1_isRaised_66 : decode cX1_isRaised 66 = .ok (.aload_n 1, 1) := by decide +kernel
theorem dX1_isRaised_67 : decode cX1_isRaised 67 = .ok (.invokevirtual 128, 3) := by decide +kernel
theorem dX1_isRaised_70 : decode cX1_isRaised 70 = .ok (.ifCond .ne 6, 3) := by decide +kernel
theorem dX1_isRaised_73 : decode cX1_isRaised 73 = .ok (.goto 23, 3) := by decide +kernel
theorem dX1_isRaised_76 : decode cX1_isRaised 76 = .ok (.aload_n 0, 1) := by decide +kernel
theorem dX1_isRaised_77 : decode cX1_isRaised 77 = .ok (.getfield 93, 3) := by decide +kernel
theorem dX1_isRaised_80 : decode cX1_isRaised 80 = .ok (.iload_n 3, 1) := by decide +kernel
theorem dX1_isRaised_81 : decode cX1_isRaised 81 = .ok (.bipush 6, 2) := by decide +kernel
theorem dX1_isRaised_83 : decode cX1_isRaised 83 = .ok (.ishr, 1) := by decide +kernel
theorem dX1_isRaised_84 : decode cX1_isRaised 84 = .ok (.dup2, 1) := by decide +kernel
theorem dX1_isRaised_85 : decode cX1_isRaised 85 = .ok (.laload, 1) := by decide +kernel
theorem dX1_isRaised_86 : decode cX1_isRaised 86 = .ok (.lconst 1, 1) := by decide +kernel
theorem dX1_isRaised_87 : decode cX1_isRaised 87 = .ok (.iload_n 3, 1) := by decide +kernel
theorem dX1_isRaised_88 : decode cX1_isRaised 88 = .ok (.bipush 63, 2) := by decide +kernel
theorem dX1_isRaised_90 : decode cX1_isRaised 90 = .ok (.iand, 1) := by decide +kernel
theorem dX1_isRaised_91 : decode cX1_isRaised 91 = .ok (.lshl, 1) := by decide +kernel
theorem dX1_isRaised_92 : decode cX1_isRaised 92 = .ok (.lor, 1) := by decide +kernel
theorem dX1_isRaised_93 : decode cX1_isRaised 93 = .ok (.lastore, 1) := by decide +kernel
theorem dX1_isRaised_94 : decode cX1_isRaised 94 = .ok (.iconst 1, 1) := by decide +kernel
theorem dX1_isRaised_95 : decode cX1_isRaised 95 = .ok (.istore_n 2, 1) := by decide +kernel
theorem dX1_isRaised_96 : decode cX1_isRaised 96 = .ok (.iinc 3 1, 3) := by decide +kernel
theorem dX1_isRaised_99 : decode cX1_isRaised 99 = .ok (.goto (-95), 3) := by decide +kernel
theorem dX1_isRaised_102 : decode cX1_isRaised 102 = .ok (.iload_n 2, 1) := by decide +kernel
theorem dX1_isRaised_103 : decode cX1_isRaised 103 = .ok (.ireturn, 1) := by decide +kernel
theorem mw_X1_isRaised : MW yX1_isRaised (Cond.code yX1_isRaised cX1_isRaised 5 (Option.some Jvm.ClassFile.FieldType.boolean)) cX1_isRaised 5 (Option.some Jvm.ClassFile.FieldType.boolean) 2 := ⟨rfl, ⟨(lw_all_tbl q1637), rfl, (lw_all_tbl q163)⟩, rfl, ⟨by decide, by decide⟩, by decide +kernel⟩
abbrev okc_X1_isRaised_28 (x : Int × Int × Int × Int × Int) : Prop := rg .boolean x.2.2.1 ∧ R32 x.2.2.2.1 ∧ R32 x.2.2.2.2
abbrev lvc_X1_isRaised_28 (Γ : Gm) (x : Int × Int × Int × Int × Int) : List (Nat × Value) := [(0, vA (mg Γ) x.1), (1, vA (mg Γ) x.2.1), (2, vI x.2.2.1), (3, vI x.2.2.2.1), (4, vI x.2.2.2.2)]
noncomputable def c_X1_isRaised_55 {A : Type} (k_62 : Int → Int → Int → Int → Mo CH A) (l0 : Int) (l1 : Int) (l2 : Int) (l3 : Int) (l4 : Int) (k0 : Int) (k1 : Int) (k2 : Int) : Mo CH ((Int × Int × Int × Int × Int) ⊕ A) :=
  bnd (ast 3 k2 k1 k0) fun _ =>
  pr (.inl (l0, l1, l2, l3, (w32 (l4 + 1))))
theorem sc_X1_isRaised_55 {Γ : Gm} {ts : TS} {d : Nat} (o : Ok Γ "LazyForge" cX1_isRaised 5 (Option.some Jvm.ClassFile.FieldType.boolean) (d + 205)) {A : Type} {K : A → CH → Prop}  (k_62 : Int → Int → Int → Int → Mo CH A) (hk_62 : ∀ (l0 : Int) (l1 : Int) (l2 : Int) (l3 : Int), rg .boolean l2 → R32 l3 → Sx Γ (fun h => (h, ts)) K 62 [(0, vA (mg Γ) l0), (1, vA (mg Γ) l1), (2, vI l2), (3, vI l3)] [] (k_62 l0 l1 l2 l3)) (l0 : Int) (l1 : Int) (l2 : Int) (l3 : Int) (l4 : Int) (k0 : Int) (k1 : Int) (k2 : Int) (hl2 : rg .boolean l2) (hl3 : R32 l3) (hl4 : R32 l4) (hk0 : rg .boolean k0) (hk1 : R32 k1) : Sx Γ (fun h => (h, ts)) (KL Γ (fun h => (h, ts)) okc_X1_isRaised_28 K 28 (lvc_X1_isRaised_28 Γ) []) 55 [(0, vA (mg Γ) l0), (1, vA (mg Γ) l1), (2, vI l2), (3, vI l3), (4, vI l4)] [vI k0, vI k1, vA (mg Γ) k2] (c_X1_isRaised_55 k_62 l0 l1 l2 l3 l4 k0 k1 k2) := by
  unfold c_X1_isRaised_55
  refine r_zast o hk1 hk0 dX1_isRaised_55 ?_
  refine r_iinc (j := 4) o dX1_isRaised_56 rfl rfl [(0, vA (mg Γ) l0), (1, vA (mg Γ) l1), (2, vI l2), (3, vI l3)] [0, 1, 2, 3] rfl ⟨(Nat.ne_of_beq_eq_false rfl), (fun _ => (vA_cat (mg Γ) l0)), ⟨(Nat.ne_of_beq_eq_false rfl), (fun _ => (vA_cat (mg Γ) l1)), ⟨(Nat.ne_of_beq_eq_false rfl), (fun _ => rfl), ⟨(Nat.ne_of_beq_eq_false rfl), (fun _ => rfl), trivial⟩⟩⟩⟩ ?_
  refine s_goto (tgt := 28) o dX1_isRaised_59 (by decide) ?_
  refine r_to [(0, vA (mg Γ) l0), (1, vA (mg Γ) l1), (2, vI l2), (3, vI l3), (4, vI (w32 (l4 + 1)))] [1, 2, 3, 4, 0] rfl ?_
  exact s_back (⟨hl2, hl3, (w32_R _)⟩) rfl
noncomputable def c_X1_isRaised_28b {A : Type} (k_62 : Int → Int → Int → Int → Mo CH A) (l0 : Int) (l1 : Int) (l2 : Int) (l3 : Int) (l4 : Int) : Mo CH ((Int × Int × Int × Int × Int) ⊕ A) :=
  bnd (isk 116 l0) fun _ =>
  bnd (c_X16_parameters l0) fun v1 =>
  if v1 ≤ l4 then
    lo (k_62 l0 l1 l2 l3)
  else
    if ¬ (iand (ishr l3 l4) 1) = 1 then
      c_X1_isRaised_55 k_62 l0 l1 l2 l3 l4 0 l4 l1
    else
      c_X1_isRaised_55 k_62 l0 l1 l2 l3 l4 1 l4 l1
theorem sc_X1_isRaised_28b {Γ : Gm} {ts : TS} {d : Nat} (o : Ok Γ "LazyForge" cX1_isRaised 5 (Option.some Jvm.ClassFile.FieldType.boolean) (d + 205)) {A : Type} {K : A → CH → Prop} (k_62 : Int → Int → Int → Int → Mo CH A) (hk_62 : ∀ (l0 : Int) (l1 : Int) (l2 : Int) (l3 : Int), rg .boolean l2 → R32 l3 → Sx Γ (fun h => (h, ts)) K 62 [(0, vA (mg Γ) l0), (1, vA (mg Γ) l1), (2, vI l2), (3, vI l3)] [] (k_62 l0 l1 l2 l3)) (l0 : Int) (l1 : Int) (l2 : Int) (l3 : Int) (l4 : Int) (hl2 : rg .boolean l2) (hl3 : R32 l3) (hl4 : R32 l4) : Sx Γ (fun h => (h, ts)) (KL Γ (fun h => (h, ts)) okc_X1_isRaised_28 K 28 (lvc_X1_isRaised_28 Γ) []) 28 [(0, vA (mg Γ) l0), (1, vA (mg Γ) l1), (2, vI l2), (3, vI l3), (4, vI l4)] [] (c_X1_isRaised_28b k_62 l0 l1 l2 l3 l4) := by
  unfold c_X1_isRaised_28b
  refine s_iload o dX1_isRaised_28 4 rfl ?_
  refine s_aload_n o dX1_isRaised_30 rfl 0 rfl ?_
  refine s_cvC (d := d + 204) (As := []) (st := [vI l4]) (c := 16) o (sc_X16_parameters (mg Γ) (d + 203) ts l0) mw_X16_parameters rfl (Or.inl (lw_all_tbl q1634)) rfl (lw_all_tbl q1606) (lw_all_tbl q1605) (wt_I wt_0) rfl dX1_isRaised_31 rfl (rs := fun r => [vI r, vI l4]) (fun _ => rfl) (fun v1 hv1 => ?_)
  refine s_icmp_ge (tgt := 62) o dX1_isRaised_34 (by decide) hl4 (hv1 _ rfl) ?_ ?_
  · refine r_to [(0, vA (mg Γ) l0), (1, vA (mg Γ) l1), (2, vI l2), (3, vI l3)] [0, 1, 2, 3] rfl ?_
    exact s_lo (hk_62 l0 l1 l2 l3 hl2 hl3)
  · refine s_aload_n o dX1_isRaised_37 rfl 1 rfl ?_
    refine s_iload o dX1_isRaised_38 4 rfl ?_
    refine s_iload_n o dX1_isRaised_40 rfl 3 rfl ?_
    refine s_iload o dX1_isRaised_41 4 rfl ?_
    refine s_ishr o dX1_isRaised_43 ?_
    refine s_iconst o dX1_isRaised_44 ?_
    refine s_iand o dX1_isRaised_45 ?_
    refine s_iconst o dX1_isRaised_46 ?_
    refine s_icmp_ne (tgt := 54) o dX1_isRaised_47 (by decide) (iand_R _ _) (r32 rfl) ?_ ?_
    · refine s_iconst o dX1_isRaised_54 ?_
      exact sc_X1_isRaised_55 o k_62 hk_62 l0 l1 l2 l3 l4 0 l4 l1 hl2 hl3 hl4 (Or.inl rfl) hl4
    · refine s_iconst o dX1_isRaised_50 ?_
      refine s_goto (tgt := 55) o dX1_isRaised_51 (by decide) ?_
      exact sc_X1_isRaised_55 o k_62 hk_62 l0 l1 l2 l3 l4 1 l4 l1 hl2 hl3 hl4 (Or.inr rfl) hl4
noncomputable def c_X1_isRaised_28 {A : Type} (k_62 : Int → Int → Int → Int → Mo CH A) (l0 : Int) (l1 : Int) (l2 : Int) (l3 : Int) (l4 : Int) : Mo CH A := Loop (fun x => c_X1_isRaised_28b k_62 x.1 x.2.1 x.2.2.1 x.2.2.2.1 x.2.2.2.2) (l0, l1, l2, l3, l4)
theorem sc_X1_isRaised_28 {Γ : Gm} {ts : TS} {d : Nat} (o : Ok Γ "LazyForge" cX1_isRaised 5 (Option.some Jvm.ClassFile.FieldType.boolean) (d + 205)) {A : Type} {K : A → CH → Prop} (k_62 : Int → Int → Int → Int → Mo CH A) (hk_62 : ∀ (l0 : Int) (l1 : Int) (l2 : Int) (l3 : Int), rg .boolean l2 → R32 l3 → Sx Γ (fun h => (h, ts)) K 62 [(0, vA (mg Γ) l0), (1, vA (mg Γ) l1), (2, vI l2), (3, vI l3)] [] (k_62 l0 l1 l2 l3)) (l0 : Int) (l1 : Int) (l2 : Int) (l3 : Int) (l4 : Int) (hl2 : rg .boolean l2) (hl3 : R32 l3) (hl4 : R32 l4) : Sx Γ (fun h => (h, ts)) K 28 [(0, vA (mg Γ) l0), (1, vA (mg Γ) l1), (2, vI l2), (3, vI l3), (4, vI l4)] [] (c_X1_isRaised_28 k_62 l0 l1 l2 l3 l4) :=
  s_loop okc_X1_isRaised_28 (lvc_X1_isRaised_28 Γ) (fun x hx => sc_X1_isRaised_28b o k_62 hk_62 x.1 x.2.1 x.2.2.1 x.2.2.2.1 x.2.2.2.2 hx.1 hx.2.1 hx.2.2) (x := (l0, l1, l2, l3, l4)) ⟨hl2, hl3, hl4⟩
abbrev okc_X1_isRaised_4 (x : Int × Int × Int × Int) : Prop := rg .boolean x.2.2.1 ∧ R32 x.2.2.2
abbrev lvc_X1_isRaised_4 (Γ : Gm) (x : Int × Int × Int × Int) : List (Nat × Value) := [(0, vA (mg Γ) x.1), (1, vA (mg Γ) x.2.1), (2, vI x.2.2.1), (3, vI x.2.2.2)]
noncomputable def c_X1_isRaised_96 {A : Type} (k_102 : Int → Mo CH A) (l0 : Int) (l1 : Int) (l2 : Int) (l3 : Int) : Mo CH ((Int × Int × Int × Int) ⊕ A) :=
  pr (.inl (l0, l1, l2, (w32 (l3 + 1))))
theorem sc_X1_isRaised_96 {Γ : Gm} {ts : TS} {d : Nat} (o : Ok Γ "LazyForge" cX1_isRaised 5 (Option.some Jvm.ClassFile.FieldType.boolean) (d + 205)) {A : Type} {K : A → CH → Prop}  (k_102 : Int → Mo CH A) (hk_102 : ∀ (l2 : Int), rg .boolean l2 → Sx Γ (fun h => (h, ts)) K 102 [(2, vI l2)] [] (k_102 l2)) (l0 : Int) (l1 : Int) (l2 : Int) (l3 : Int) (hl2 : rg .boolean l2) (hl3 : R32 l3) : Sx Γ (fun h => (h, ts)) (KL Γ (fun h => (h, ts)) okc_X1_isRaised_4 K 4 (lvc_X1_isRaised_4 Γ) []) 96 [(0, vA (mg Γ) l0), (1, vA (mg Γ) l1), (2, vI l2), (3, vI l3)] [] (c_X1_isRaised_96 k_102 l0 l1 l2 l3) := by
  unfold c_X1_isRaised_96
  refine r_iinc (j := 3) o dX1_isRaised_96 rfl rfl [(0, vA (mg Γ) l0), (1, vA (mg Γ) l1), (2, vI l2)] [0, 1, 2] rfl ⟨(Nat.ne_of_beq_eq_false rfl), (fun _ => (vA_cat (mg Γ) l0)), ⟨(Nat.ne_of_beq_eq_false rfl), (fun _ => (vA_cat (mg Γ) l1)), ⟨(Nat.ne_of_beq_eq_false rfl), (fun _ => rfl), trivial⟩⟩⟩ ?_
  refine s_goto (tgt := 4) o dX1_isRaised_99 (by decide) ?_
  refine r_to [(0, vA (mg Γ) l0), (1, vA (mg Γ) l1), (2, vI l2), (3, vI (w32 (l3 + 1)))] [1, 2, 3, 0] rfl ?_
  exact s_back (⟨hl2, (w32_R _)⟩) rfl
noncomputable def c_X1_isRaised_4b {A : Type} (k_102 : Int → Mo CH A) (l0 : Int) (l1 : Int) (l2 : Int) (l3 : Int) : Mo CH ((Int × Int × Int × Int) ⊕ A) :=
  bnd (isk 116 l0) fun _ =>
  bnd (c_X16_parameters l0) fun v1 =>
  if (ishl 1 v1) ≤ l3 then
    lo (k_102 l2)
  else
    bnd (isk 116 l0) fun _ =>
    bnd (c_X16_at l0 l3) fun v2 =>
    if v2 = 0 then
      c_X1_isRaised_28
        (fun v3 v4 v5 v6 => bnd (gf [116] 6 v3) fun v7 =>
      bnd (v_X4_least v7 v4) fun v8 =>
      if ¬ v8 = 0 then
        bnd (gf [116] 8 v3) fun v9 =>
        bnd (ald 1 v9 (ishr v6 6)) fun v10 =>
        bnd (ast 1 v9 (ishr v6 6) (lor v10 (lshl 1 (iand v6 63)))) fun _ =>
        c_X1_isRaised_96 k_102 v3 v4 1 v6
      else
        c_X1_isRaised_96 k_102 v3 v4 v5 v6) l0 l1 l2 l3 0
    else
      c_X1_isRaised_96 k_102 l0 l1 l2 l3
theorem sc_X1_isRaised_4b {Γ : Gm} {ts : TS} {d : Nat} (o : Ok Γ "LazyForge" cX1_isRaised 5 (Option.some Jvm.ClassFile.FieldType.boolean) (d + 205)) {A : Type} {K : A → CH → Prop} (k_102 : Int → Mo CH A) (hk_102 : ∀ (l2 : Int), rg .boolean l2 → Sx Γ (fun h => (h, ts)) K 102 [(2, vI l2)] [] (k_102 l2)) (l0 : Int) (l1 : Int) (l2 : Int) (l3 : Int) (hl2 : rg .boolean l2) (hl3 : R32 l3) : Sx Γ (fun h => (h, ts)) (KL Γ (fun h => (h, ts)) okc_X1_isRaised_4 K 4 (lvc_X1_isRaised_4 Γ) []) 4 [(0, vA (mg Γ) l0), (1, vA (mg Γ) l1), (2, vI l2), (3, vI l3)] [] (c_X1_isRaised_4b k_102 l0 l1 l2 l3) := by
  unfold c_X1_isRaised_4b
  refine s_iload_n o dX1_isRaised_4 rfl 3 rfl ?_
  refine s_iconst o dX1_isRaised_5 ?_
  refine s_aload_n o dX1_isRaised_6 rfl 0 rfl ?_
  refine s_cvC (d := d + 204) (As := []) (st := [vI 1, vI l3]) (c := 16) o (sc_X16_parameters (mg Γ) (d + 203) ts l0) mw_X16_parameters rfl (Or.inl (lw_all_tbl q1634)) rfl (lw_all_tbl q1606) (lw_all_tbl q1605) (wt_I (wt_I wt_0)) rfl dX1_isRaised_7 rfl (rs := fun r => [vI r, vI 1, vI l3]) (fun _ => rfl) (fun v1 hv1 => ?_)
  refine s_ishl o dX1_isRaised_10 ?_
  refine s_icmp_ge (tgt := 102) o dX1_isRaised_11 (by decide) hl3 (ishl_R _ _) ?_ ?_
  · refine r_to [(2, vI l2)] [2] rfl ?_
    exact s_lo (hk_102 l2 hl2)
  · refine s_aload_n o dX1_isRaised_14 rfl 0 rfl ?_
    refine s_iload_n o dX1_isRaised_15 rfl 3 rfl ?_
    refine s_cvC (d := d + 204) (As := [vI l3]) (st := []) (c := 16) o (sc_X16_at (mg Γ) (d + 204) ts l0 l3 hl3) mw_X16_at rfl (Or.inl (lw_all_tbl q1638)) rfl (lw_all_tbl q1640) (lw_all_tbl q1639) wt_0 rfl dX1_isRaised_16 rfl (rs := fun r => [vI r]) (fun _ => rfl) (fun v2 hv2 => ?_)
    refine s_if_eq (tgt := 25) o dX1_isRaised_19 (by decide) (rZ (hv2 _ rfl)) ?_ ?_
    · refine s_iconst o dX1_isRaised_25 ?_
      refine r_istore o dX1_isRaised_26 rfl ⟨(Nat.ne_of_beq_eq_false rfl), (fun _ => (vA_cat (mg Γ) l0)), ⟨(Nat.ne_of_beq_eq_false rfl), (fun _ => (vA_cat (mg Γ) l1)), ⟨(Nat.ne_of_beq_eq_false rfl), (fun _ => rfl), ⟨(Nat.ne_of_beq_eq_false rfl), (fun _ => rfl), trivial⟩⟩⟩⟩ ?_
      refine r_to [(0, vA (mg Γ) l0), (1, vA (mg Γ) l1), (2, vI l2), (3, vI l3), (4, vI 0)] [1, 2, 3, 4, 0] rfl ?_
      refine sc_X1_isRaised_28 o _ ?_ l0 l1 l2 l3 0 hl2 hl3 (r32 rfl)
      · intro v3 v4 v5 v6 hv5 hv6
        refine s_aload_n o dX1_isRaised_62 rfl 0 rfl ?_
        refine r_getf (vA (mg Γ)) rfl o cf_X16_body (Or.inr (Or.inl ⟨_, q1160⟩)) dX1_isRaised_63 (fun v7 hv7 => ?_)
        refine s_aload_n o dX1_isRaised_66 rfl 1 rfl ?_
        refine s_cu (d := d + 204) (As := [vA (mg Γ) v4]) (st := []) (owner := "LazyForge$Part") o (sv_X4_least (mg Γ) d ts v7 v4) rfl (lw_all_tbl q1642) (lw_all_tbl q1644) (Or.inr ⟨_, _, _, (lw_all_tbl q1643), (lw_all_tbl q1659)⟩) ⟨by decide, by decide⟩ (by decide +kernel) wt_0 rfl dX1_isRaised_67 rfl (rs := fun r => [vI r]) (fun _ => rfl) (fun v8 hv8 => ?_)
        refine s_if_ne (tgt := 76) o dX1_isRaised_70 (by decide) (rZ (hv8 _ rfl)) ?_ ?_
        · refine s_aload_n o dX1_isRaised_76 rfl 0 rfl ?_
          refine r_getf (vA (mg Γ)) rfl o cf_X16_table (Or.inr (Or.inl ⟨_, q1165⟩)) dX1_isRaised_77 (fun v9 hv9 => ?_)
          refine s_iload_n o dX1_isRaised_80 rfl 3 rfl ?_
          refine s_bipush o dX1_isRaised_81 rfl ?_
          refine s_ishr o dX1_isRaised_83 ?_
          refine s_dup2 o dX1_isRaised_84 rfl (vA_cat (mg Γ) v9) ?_
          refine r_lald o (ishr_R _ _) dX1_isRaised_85 (fun v10 hv10 => ?_)
          refine s_lconst (x := 1) o dX1_isRaised_86 rfl ?_
          refine s_iload_n o dX1_isRaised_87 rfl 3 rfl ?_
          refine s_bipush o dX1_isRaised_88 rfl ?_
          refine s_iand o dX1_isRaised_90 ?_
          refine s_lshl o dX1_isRaised_91 ?_
          refine s_lor o dX1_isRaised_92 ?_
          refine r_last o (ishr_R _ _) (lor_R _ _) dX1_isRaised_93 ?_
          refine s_iconst o dX1_isRaised_94 ?_
          refine r_istore_nP o dX1_isRaised_95 rfl rfl [(0, vA (mg Γ) v3), (1, vA (mg Γ) v4), (3, vI v6)] [0, 1, 3] rfl ⟨(Nat.ne_of_beq_eq_false rfl), (fun _ => (vA_cat (mg Γ) v3)), ⟨(Nat.ne_of_beq_eq_false rfl), (fun _ => (vA_cat (mg Γ) v4)), ⟨(Nat.ne_of_beq_eq_false rfl), (fun _ => rfl), trivial⟩⟩⟩ ?_
          refine r_to [(0, vA (mg Γ) v3), (1, vA (mg Γ) v4), (2, vI 1), (3, vI v6)] [1, 2, 0, 3] rfl ?_
          exact sc_X1_isRaised_96 o k_102 hk_102 v3 v4 1 v6 (Or.inr rfl) hv6
        · refine s_goto (tgt := 96) o dX1_isRaised_73 (by decide) ?_
          exact sc_X1_isRaised_96 o k_102 hk_102 v3 v4 v5 v6 hv5 hv6
    · refine s_goto (tgt := 96) o dX1_isRaised_22 (by decide) ?_
      exact sc_X1_isRaised_96 o k_102 hk_102 l0 l1 l2 l3 hl2 hl3
noncomputable def c_X1_isRaised_4 {A : Type} (k_102 : Int → Mo CH A) (l0 : Int) (l1 : Int) (l2 : Int) (l3 : Int) : Mo CH A := Loop (fun x => c_X1_isRaised_4b k_102 x.1 x.2.1 x.2.2.1 x.2.2.2) (l0, l1, l2, l3)
theorem sc_X1_isRaised_4 {Γ : Gm} {ts : TS} {d : Nat} (o : Ok Γ "LazyForge" cX1_isRaised 5 (Option.some Jvm.ClassFile.FieldType.boolean) (d + 205)) {A : Type} {K : A → CH → Prop} (k_102 : Int → Mo CH A) (hk_102 : ∀ (l2 : Int), rg .boolean l2 → Sx Γ (fun h => (h, ts)) K 102 [(2, vI l2)] [] (k_102 l2)) (l0 : Int) (l1 : Int) (l2 : Int) (l3 : Int) (hl2 : rg .boolean l2) (hl3 : R32 l3) : Sx Γ (fun h => (h, ts)) K 4 [(0, vA (mg Γ) l0), (1, vA (mg Γ) l1), (2, vI l2), (3, vI l3)] [] (c_X1_isRaised_4 k_102 l0 l1 l2 l3) :=
  s_loop okc_X1_isRaised_4 (lvc_X1_isRaised_4 Γ) (fun x hx => sc_X1_isRaised_4b o k_102 hk_102 x.1 x.2.1 x.2.2.1 x.2.2.2 hx.1 hx.2) (x := (l0, l1, l2, l3)) ⟨hl2, hl3⟩
noncomputable def c_X1_isRaised (l0 : Int) (l1 : Int) : Mo CH Int :=
  c_X1_isRaised_4
    (fun v1 => pr v1) l0 l1 0 0
theorem sc_X1_isRaised (g : gC) (d : Nat) (ts : TS) (l0 : Int) (l1 : Int) : SF g yX1_isRaised (Cond.code yX1_isRaised cX1_isRaised 5 (Option.some Jvm.ClassFile.FieldType.boolean)) (Option.some Jvm.ClassFile.FieldType.boolean) (d + 205) [vA g l0, vA g l1] (fun h => (h, ts)) (c_X1_isRaised l0 l1) := by
  refine SF.of (lv := [(0, vA g l0), (1, vA g l1)]) (by decide) (wt_A (wt_A wt_0)) rfl (by simp only [la_A, la_I, la_J, la_0]) (fun Γ hg hnm o => ?_)
  subst hg
  have o : Ok Γ "LazyForge" cX1_isRaised 5 (Option.some Jvm.ClassFile.FieldType.boolean) (d + 205) := o
  unfold c_X1_isRaised
  refine s_iconst o dX1_isRaised_0 ?_
  refine r_istore_n o dX1_isRaised_1 rfl rfl ⟨(Nat.ne_of_beq_eq_false rfl), (fun _ => (vA_cat (mg Γ) l0)), ⟨(Nat.ne_of_beq_eq_false rfl), (fun _ => (vA_cat (mg Γ) l1)), trivial⟩⟩ ?_
  refine s_iconst o dX1_isRaised_2 ?_
  refine r_istore_n o dX1_isRaised_3 rfl rfl ⟨(Nat.ne_of_beq_eq_false rfl), (fun _ => rfl), ⟨(Nat.ne_of_beq_eq_false rfl), (fun _ => (vA_cat (mg Γ) l0)), ⟨(Nat.ne_of_beq_eq_false rfl), (fun _ => (vA_cat (mg Γ) l1)), trivial⟩⟩⟩ ?_
  refine r_to [(0, vA (mg Γ) l0), (1, vA (mg Γ) l1), (2, vI 0), (3, vI 0)] [2, 3, 1, 0] rfl ?_
  refine sc_X1_isRaised_4 o _ ?_ l0 l1 0 0 (Or.inl rfl) (r32 rfl)
  · intro v1 hv1
    refine s_iload_n o dX1_isRaised_102 rfl 0 rfl ?_
    exact s_iret o rfl i_boolean hv1 dX1_isRaised_103 (fun _ hh => hh)
noncomputable def v_X4_mayWait (l0 : Int) (l1 : Int) (l2 : Int) : Mo CH Int := dsp l0 [([106, 107, 108, 109, 110, 118, 119, 120, 121, 122, 123, 124, 125, 126], c_X4_mayWait l0 l1 l2)]
theorem sv_X4_mayWait (g : gC) (d : Nat) (ts : TS) (l0 : Int) (l1 : Int) (l2 : Int) : VR g ts ⟨"LazyForge$Part", "mayWait", "(LLazyForge$Program;LLazyForge$Function;)V"⟩ none 2 (d + 201) l0 [vA g l1, vA g l2] (v_X4_mayWait l0 l1 l2) := (VR.cons (x0 := ⟨"LazyForge$Part", "mayWait", "(LLazyForge$Program;LLazyForge$Function;)V"⟩) ⟨⟨6, _, rfl, rfl, (lw_all_tbl q3462)⟩, ⟨⟨7, _, rfl, rfl, (lw_all_tbl q3456)⟩, ⟨⟨8, _, rfl, rfl, (lw_all_tbl q3450)⟩, ⟨⟨9, _, rfl, rfl, (lw_all_tbl q3453)⟩, ⟨⟨10, _, rfl, rfl, (lw_all_tbl q3455)⟩, ⟨⟨18, _, rfl, rfl, (lw_all_tbl q3457)⟩, ⟨⟨19, _, rfl, rfl, (lw_all_tbl q3460)⟩, ⟨⟨20, _, rfl, rfl, (lw_all_tbl q3463)⟩, ⟨⟨21, _, rfl, rfl, (lw_all_tbl q3451)⟩, ⟨⟨22, _, rfl, rfl, (lw_all_tbl q3452)⟩, ⟨⟨23, _, rfl, rfl, (lw_all_tbl q3461)⟩, ⟨⟨24, _, rfl, rfl, (lw_all_tbl q3458)⟩, ⟨⟨25, _, rfl, rfl, (lw_all_tbl q3459)⟩, ⟨⟨26, _, rfl, rfl, (lw_all_tbl q3454)⟩, trivial⟩⟩⟩⟩⟩⟩⟩⟩⟩⟩⟩⟩⟩⟩ (lw_all_tbl q1762) mw_X4_mayWait (sc_X4_mayWait g (d + 0) ts l0 l1 l2) VR.nil)
theorem dX1_judge_0 : decode cX1_judge 0 = .ok (.iconst 0, 1) := by decide +kernel
theorem dX1_judge_1 : decode cX1_judge 1 = .ok (.istore_n 1, 1) := by decide +kernel
theorem dX1_judge_2 : decode cX1_judge 2 = .ok (.iload_n 1, 1) := by decide +kernel
theorem dX1_judge_3 : decode cX1_judge 3 = .ok (.aload_n 0, 1) := by decide +kernel
theorem dX1_judge_4 : decode cX1_judge 4 = .ok (.getfield 73, 3) := by decide +kernel
theorem dX1_judge_7 : decode cX1_judge 7 = .ok (.invokevirtual 79, 3) := by decide +kernel
theorem dX1_judge_10 : decode cX1_judge 10 = .ok (.if_icmp .ge 47, 3) := by decide +kernel
theorem dX1_judge_13 : decode cX1_judge 13 = .ok (.aload_n 0, 1) := by decide +kernel
theorem dX1_judge_14 : decode cX1_judge 14 = .ok (.getfield 73, 3) := by decide +kernel
theorem dX1_judge_17 : decode cX1_judge 17 = .ok (.iload_n 1, 1) := by decide +kernel
theorem dX1_judge_18 : decode cX1_judge 18 = .ok (.invokevirtual 84, 3) := by decide +kernel
theorem dX1_judge_21 : decode cX1_judge 21 = .ok (.checkcast 88, 3) := by decide +kernel
theorem dX1_judge_24 : decode cX1_judge 24 = .ok (.iconst 1, 1) := by decide +kernel
theorem dX1_judge_25 : decode cX1_judge 25 = .ok (.aload_n 0, 1) := by decide +kernel
theorem dX1_judge_26 : decode cX1_judge 26 = .ok (.getfield 73, 3) := by decide +kernel
theorem dX1_judge_29 : decode cX1_judge 29 = .ok (.iload_n 1, 1) := by decide +kernel
theorem dX1_judge_30 : decode cX1_judge 30 = .ok (.invokevirtual 84, 3) := by decide +kernel
theorem dX1_judge_33 : decode cX1_judge 33 = .ok (.checkcast 88, 3) := by decide +kernel
theorem dX1_judge_36 : decode cX1_judge 36 = .ok (.invokevirtual 90, 3) := by decide +kernel
theorem dX1_judge_39 : decode cX1_judge 39 = .ok (.ishl, 1) := by decide +kernel
theorem dX1_judge_40 : decode cX1_judge 40 = .ok (.bipush 63, 2) := by decide +kernel
theorem dX1_judge_42 : decode cX1_judge 42 = .ok (.iadd, 1) := by decide +kernel
theorem dX1_judge_43 : decode cX1_judge 43 = .ok (.bipush 6, 2) := by decide +kernel
theorem dX1_judge_45 : decode cX1_judge 45 = .ok (.ishr, 1) := by decide +kernel
theorem dX1_judge_46 : decode cX1_judge 46 = .ok (.newarray .long, 2) := by decide +kernel
theorem dX1_judge_48 : decode cX1_judge 48 = .ok (.putfield 93, 3) := by decide +kernel
theorem dX1_judge_51 : decode cX1_judge 51 = .ok (.iinc 1 1, 3) := by decide +kernel
theorem dX1_judge_54 : decode cX1_judge 54 = .ok (.goto (-52), 3) := by decide +kernel
theorem dX1_judge_57 : decode cX1_judge 57 = .ok (.iconst 1, 1) := by decide +kernel
theorem dX1_judge_58 : decode cX1_judge 58 = .ok (.istore_n 1, 1) := by decide +kernel
theorem dX1_judge_59 : decode cX1_judge 59 = .ok (.iload_n 1, 1) := by decide +kernel
theorem dX1_judge_60 : decode cX1_judge 60 = .ok (.ifCond .eq 58, 3) := by decide +kernel
theorem dX1_judge_63 : decode cX1_judge 63 = .ok (.iconst 0, 1) := by decide +kernel
theorem dX1_judge_64 : decode cX1_judge 64 = .ok (.istore_n 1, 1) := by decide +kernel
theorem dX1_judge_65 : decode cX1_judge 65 = .ok (.iconst 0, 1) := by decide +kernel
theorem dX1_judge_66 : decode cX1_judge 66 = .ok (.istore_n 2, 1) := by decide +kernel
theorem dX1_judge_67 : decode cX1_judge 67 = .ok (.iload_n 2, 1) := by decide +kernel
theorem dX1_judge_68 : decode cX1_judge 68 = .ok (.aload_n 0, 1) := by decide +kernel
theorem dX1_judge_69 : decode cX1_judge 69 = .ok (.getfield 73, 3) := by decide +kernel
theorem dX1_judge_72 : decode cX1_judge 72 = .ok (.invokevirtual 79, 3) := by decide +kernel
theorem dX1_judge_75 : decode cX1_judge 75 = .ok (.if_icmp .ge 40, 3) := by decide +kernel
theorem dX1_judge_78 : decode cX1_judge 78 = .ok (.aload_n 0, 1) := by decide +kernel
theorem dX1_judge_79 : decode cX1_judge 79 = .ok (.getfield 73, 3) := by decide +kernel
theorem dX1_judge_82 : decode cX1_judge 82 = .ok (.iload_n 2, 1) := by decide +kernel
theorem dX1_judge_83 : decode cX1_judge 83 = .ok (.invokevirtual 84, 3) := by decide +kernel
theorem dX1_judge_86 : decode cX1_judge 86 = .ok (.checkcast 88, 3) := by decide +kernel
theorem dX1_judge_89 : decode cX1_judge 89 = .ok (.aload_n 0, 1) := by decide +kernel
theorem dX1_judge_90 : decode cX1_judge 90 = .ok (.getfield 97, 3) := by decide +kernel
theorem dX1_judge_93 : decode cX1_judge 93 = .ok (.invokestatic 101, 3) := by decide +kernel
theorem dX1_judge_96 : decode cX1_judge 96 = .ok (.ifCond .ne 7, 3) := by decide +kernel
theorem dX1_judge_99 : decode cX1_judge 99 = .ok (.iload_n 1, 1) := by decide +kernel
theorem dX1_judge_100 : decode cX1_judge 100 = .ok (.ifCond .eq 7, 3) := by decide +kernel
theorem dX1_judge_103 : decode cX1_judge 103 = .ok (.iconst 1, 1) := by decide +kernel
theorem dX1_judge_104 : decode cX1_judge 104 = .ok (.goto 4, 3) := by decide +kernel
theorem dX1_judge_107 : decode cX1_judge 107 = .ok (.iconst 0, 1) := by decide +kernel
theorem dX1_judge_108 : decode cX1_judge 108 = .ok (.istore_n 1, 1) := by decide +kernel
theorem dX1_judge_109 : decode cX1_judge 109 = .ok (.iinc 2 1, 3) := by decide +kernel
theorem dX1_judge_112 : decode cX1_judge 112 = .ok (.goto (-45), 3) := by decide +kernel
theorem dX1_judge_115 : decode cX1_judge 115 = .ok (.goto (-56), 3) := by decide +kernel
theorem dX1_judge_118 : decode cX1_judge 118 = .ok (.iconst 0, 1) := by decide +kernel
theorem dX1_judge_119 : decode cX1_judge 119 = .ok (.istore_n 2, 1) := by decide +kernel
theorem dX1_judge_120 : decode cX1_judge 120 = .ok (.iload_n 2, 1) := by decide +kernel
theorem dX1_judge_121 : decode cX1_judge 121 = .ok (.aload_n 0, 1) := by decide +kernel
theorem dX1_judge_122 : decode cX1_judge 122 = .ok (.getfield 73, 3) := by decide +kernel
theorem dX1_judge_125 : decode cX1_judge 125 = .ok (.invokevirtual 79, 3) := by decide +kernel
theorem dX1_judge_128 : decode cX1_judge 128 = .ok (.if_icmp .ge 111, 3) := by decide +kernel
theorem dX1_judge_131 : decode cX1_judge 131 = .ok (.aload_n 0, 1) := by decide +kernel
theorem dX1_judge_132 : decode cX1_judge 132 = .ok (.getfield 73, 3) := by decide +kernel
theorem dX1_judge_135 : decode cX1_judge 135 = .ok (.iload_n 2, 1) := by decide +kernel
theorem dX1_judge_136 : decode cX1_judge 136 = .ok (.invokevirtual 84, 3) := by decide +kernel
theorem dX1_judge_139 : decode cX1_judge 139 = .ok (.checkcast 88, 3) := by decide +kernel
theorem dX1_judge_142 : decode cX1_judge 142 = .ok (.astore_n 3, 1) := by decide +kernel
theorem dX1_judge_143 : decode cX1_judge 143 = .ok (.aload_n 3, 1) := by decide +kernel
theorem dX1_judge_144 : decode cX1_judge 144 = .ok (.invokevirtual 90, 3) := by decide +kernel
theorem dX1_judge_147 : decode cX1_judge 147 = .ok (.istore 4, 2) := by decide +kernel
theorem dX1_judge_149 : decode cX1_judge 149 = .ok (.iconst 1, 1) := by decide +kernel
theorem dX1_judge_150 : decode cX1_judge 150 = .ok (.iload 4, 2) := by decide +kernel
theorem dX1_judge_152 : decode cX1_judge 152 = .ok (.ishl, 1) := by decide +kernel
theorem dX1_judge_153 : decode cX1_judge 153 = .ok (.iconst 1, 1) := by decide +kernel
theorem dX1_judge_154 : decode cX1_judge 154 = .ok (.isub, 1) := by decide +kernel
theorem dX1_judge_155 : decode cX1_judge 155 = .ok (.istore 5, 2) := by decide +kernel
theorem dX1_judge_157 : decode cX1_judge 157 = .ok (.iconst 0, 1) := by decide +kernel
theorem dX1_judge_158 : decode cX1_judge 158 = .ok (.istore 6, 2) := by decide +kernel
theorem dX1_judge_160 : decode cX1_judge 160 = .ok (.iload 6, 2) := by decide +kernel
theorem dX1_judge_162 : decode cX1_judge 162 = .ok (.iload 4, 2) := by decide +kernel
theorem dX1_judge_164 : decode cX1_judge 164 = .ok (.if_icmp .ge 40, 3) := by decide +kernel
theorem dX1_judge_167 : decode cX1_judge 167 = .ok (.aload_n 3, 1) := by decide +kernel
theorem dX1_judge_168 : decode cX1_judge 168 = .ok (.dup, 1) := by decide +kernel
theorem dX1_judge_169 : decode cX1_judge 169 = .ok (.getfield 105, 3) := by decide +kernel
theorem dX1_judge_172 : decode cX1_judge 172 = .ok (.aload_n 3, 1) := by decide +kernel
theorem dX1_judge_173 : decode cX1_judge 173 = .ok (.iload 5, 2) := by decide +kernel
theorem dX1_judge_175 : decode cX1_judge 175 = .ok (.iconst 1, 1) := by decide +kernel
theorem dX1_judge_176 : decode cX1_judge 176 = .ok (.iload 6, 2) := by decide +kernel
theorem dX1_judge_178 : decode cX1_judge 178 = .ok (.ishl, 1) := by decide +kernel
theorem dX1_judge_179 : decode cX1_judge 179 = .ok (.ixor, 1) := by decide +kernel
theorem dX1_judge_180 : decode cX1_judge 180 = .ok (.invokevirtual 108, 3) := by decide +kernel
theorem dX1_judge_183 : decode cX1_judge 183 = .ok (.ifCond .eq 7, 3) := by decide +kernel
theorem dX1_judge_186 : decode cX1_judge 186 = .ok (.iconst 0, 1) := by decide +kernel
theorem dX1_judge_187 : decode cX1_judge 187 = .ok (.goto 7, 3) := by decide +kernel
theorem dX1_judge_190 : decode cX1_judge 190 = .ok (.iconst 1, 1) := by decide +kernel
theorem dX1_judge_191 : decode cX1_judge 191 = .ok (.iload 6, 2) := by decide +kernel
theorem dX1_judge_193 : decode cX1_judge 193 = .ok (.ishl, 1) := by decide +kernel
theorem dX1_judge_194 : decode cX1_judge 194 = .ok (.ior, 1) := by decide +kernel
theorem dX1_judge_195 : decode cX1_judge 195 = .ok (.putfield 105, 3) := by decide +kernel
theorem dX1_judge_198 : decode cX1_judge 198 = .ok (.iinc 6 1, 3) := by decide +kernel
theorem dX1_judge_201 : decode cX1_judge 201 = .ok (.goto (-41), 3) := by decide +kernel
theorem dX1_judge_204 : decode cX1_judge 204 = .ok (.aload_n 3, 1) := by decide +kernel
theorem dX1_judge_205 : decode cX1_judge 205 = .ok (.getfield 112, 3) := by decide +kernel
theorem dX1_judge_208 : decode cX1_judge 208 = .ok (.aload_n 0, 1) := by decide +kernel
theorem dX1_judge_209 : decode cX1_judge 209 = .ok (.aload_n 3, 1) := by decide +kernel
theorem dX1_judge_210 : decode cX1_judge 210 = .ok (.invokevirtual 116, 3) := by decide +kernel
theorem dX1_judge_213 : decode cX1_judge 213 = .ok (.aload_n 3, 1) := by decide +kernel
theorem dX1_judge_214 : decode cX1_judge 214 = .ok (.getfield 112, 3) := by decide +kernel
theorem dX1_judge_217 : decode cX1_judge 217 = .ok (.getfield 122, 3) := by decide +kernel
theorem dX1_judge_220 : decode cX1_judge 220 = .ok (.iconst (-1), 1) := by decide +kernel
theorem dX1_judge_221 : decode cX1_judge 221 = .ok (.if_icmp .ne 12, 3) := by decide +kernel
theorem dX1_judge_224 : decode cX1_judge 224 = .ok (.aload_n 3, 1) := by decide +kernel
theorem dX1_judge_225 : decode cX1_judge 225 = .ok (.getfield 112, 3) := by decide +kernel
theorem dX1_judge_228 : decode cX1_judge 228 = .ok (.aload_n 0, 1) := by decide +kernel
theorem dX1_judge_229 : decode cX1_judge 229 = .ok (.aload_n 3, 1) := by decide +kernel
theorem dX1_judge_230 : decode cX1_judge 230 = .ok (.invokevirtual 125, 3) := by decide +kernel
theorem dX1_judge_233 : decode cX1_judge 233 = .ok (.iinc 2 1, 3) := by decide +kernel
theorem dX1_judge_236 : decode cX1_judge 236 = .ok (.goto (-116), 3) := by decide +kernel
theorem dX1_judge_239 : decode cX1_judge 239 = .ok (.return_, 1) := by decide +kernel
theorem mw_X1_judge : MW yX1_judge (Cond.code yX1_judge cX1_judge 7 (Option.none : Option Jvm.ClassFile.FieldType)) cX1_judge 7 (Option.none : Option Jvm.ClassFile.FieldType) 1 := ⟨rfl, ⟨(lw_all_tbl q1630), rfl, (lw_all_tbl q163)⟩, rfl, ⟨by decide, by decide⟩, by decide +kernel⟩
abbrev okc_X1_judge_67 (x : Int × Int × Int) : Prop := rg .boolean x.2.1 ∧ R32 x.2.2
abbrev lvc_X1_judge_67 (Γ : Gm) (x : Int × Int × Int) : List (Nat × Value) := [(0, vA (mg Γ) x.1), (1, vI x.2.1), (2, vI x.2.2)]
noncomputable def c_X1_judge_108 {A : Type} (k_115 : Int → Int → Mo CH A) (l0 : Int) (l2 : Int) (k0 : Int) : Mo CH ((Int × Int × Int) ⊕ A) :=
  pr (.inl (l0, k0, (w32 (l2 + 1))))
theorem sc_X1_judge_108 {Γ : Gm} {ts : TS} {d : Nat} (o : Ok Γ "LazyForge" cX1_judge 7 (Option.none : Option Jvm.ClassFile.FieldType) (d + 406)) {A : Type} {K : A → CH → Prop}  (k_115 : Int → Int → Mo CH A) (hk_115 : ∀ (l0 : Int) (l1 : Int), rg .boolean l1 → Sx Γ (fun h => (h, ts)) K 115 [(0, vA (mg Γ) l0), (1, vI l1)] [] (k_115 l0 l1)) (l0 : Int) (l2 : Int) (k0 : Int) (hl2 : R32 l2) (hk0 : rg .boolean k0) : Sx Γ (fun h => (h, ts)) (KL Γ (fun h => (h, ts)) okc_X1_judge_67 K 67 (lvc_X1_judge_67 Γ) []) 108 [(0, vA (mg Γ) l0), (2, vI l2)] [vI k0] (c_X1_judge_108 k_115 l0 l2 k0) := by
  unfold c_X1_judge_108
  refine r_istore_n o dX1_judge_108 rfl rfl ⟨(Nat.ne_of_beq_eq_false rfl), (fun _ => (vA_cat (mg Γ) l0)), ⟨(Nat.ne_of_beq_eq_false rfl), (fun _ => rfl), trivial⟩⟩ ?_
  refine r_iinc (j := 2) o dX1_judge_109 rfl rfl [(1, vI k0), (0, vA (mg Γ) l0)] [0, 1] rfl ⟨(Nat.ne_of_beq_eq_false rfl), (fun _ => rfl), ⟨(Nat.ne_of_beq_eq_false rfl), (fun _ => (vA_cat (mg Γ) l0)), trivial⟩⟩ ?_
  refine s_goto (tgt := 67) o dX1_judge_112 (by decide) ?_
  refine r_to [(0, vA (mg Γ) l0), (1, vI k0), (2, vI (w32 (l2 + 1)))] [2, 1, 0] rfl ?_
  exact s_back (⟨hk0, (w32_R _)⟩) rfl
noncomputable def c_X1_judge_103 {A : Type} (k_115 : Int → Int → Mo CH A) (l0 : Int) (l2 : Int) : Mo CH ((Int × Int × Int) ⊕ A) :=
  c_X1_judge_108 k_115 l0 l2 1
theorem sc_X1_judge_103 {Γ : Gm} {ts : TS} {d : Nat} (o : Ok Γ "LazyForge" cX1_judge 7 (Option.none : Option Jvm.ClassFile.FieldType) (d + 406)) {A : Type} {K : A → CH → Prop}  (k_115 : Int → Int → Mo CH A) (hk_115 : ∀ (l0 : Int) (l1 : Int), rg .boolean l1 → Sx Γ (fun h => (h, ts)) K 115 [(0, vA (mg Γ) l0), (1, vI l1)] [] (k_115 l0 l1)) (l0 : Int) (l2 : Int) (hl2 : R32 l2) : Sx Γ (fun h => (h, ts)) (KL Γ (fun h => (h, ts)) okc_X1_judge_67 K 67 (lvc_X1_judge_67 Γ) []) 103 [(0, vA (mg Γ) l0), (2, vI l2)] [] (c_X1_judge_103 k_115 l0 l2) := by
  unfold c_X1_judge_103
  refine s_iconst o dX1_judge_103 ?_
  refine s_goto (tgt := 108) o dX1_judge_104 (by decide) ?_
  exact sc_X1_judge_108 o k_115 hk_115 l0 l2 1 hl2 (Or.inr rfl)
noncomputable def c_X1_judge_67b {A : Type} (k_115 : Int → Int → Mo CH A) (l0 : Int) (l1 : Int) (l2 : Int) : Mo CH ((Int × Int × Int) ⊕ A) :=
  bnd (gf [115] 0 l0) fun v1 =>
  bnd (isk 127 v1) fun _ =>
  bnd (c_J13_size v1) fun v2 =>
  if v2 ≤ l2 then
    lo (k_115 l0 l1)
  else
    bnd (gf [115] 0 l0) fun v3 =>
    bnd (isk 127 v3) fun _ =>
    bnd (c_J13_get v3 l2) fun v4 =>
    bnd (ckk [116] v4) fun _ =>
    bnd (gf [115] 2 l0) fun v5 =>
    bnd (c_X1_isRaised v4 v5) fun v6 =>
    if ¬ v6 = 0 then
      c_X1_judge_103 k_115 l0 l2
    else
      if l1 = 0 then
        c_X1_judge_108 k_115 l0 l2 0
      else
        c_X1_judge_103 k_115 l0 l2
theorem sc_X1_judge_67b {Γ : Gm} {ts : TS} {d : Nat} (o : Ok Γ "LazyForge" cX1_judge 7 (Option.none : Option Jvm.ClassFile.FieldType) (d + 406)) {A : Type} {K : A → CH → Prop} (k_115 : Int → Int → Mo CH A) (hk_115 : ∀ (l0 : Int) (l1 : Int), rg .boolean l1 → Sx Γ (fun h => (h, ts)) K 115 [(0, vA (mg Γ) l0), (1, vI l1)] [] (k_115 l0 l1)) (l0 : Int) (l1 : Int) (l2 : Int) (hl1 : rg .boolean l1) (hl2 : R32 l2) : Sx Γ (fun h => (h, ts)) (KL Γ (fun h => (h, ts)) okc_X1_judge_67 K 67 (lvc_X1_judge_67 Γ) []) 67 [(0, vA (mg Γ) l0), (1, vI l1), (2, vI l2)] [] (c_X1_judge_67b k_115 l0 l1 l2) := by
  unfold c_X1_judge_67b
  refine s_iload_n o dX1_judge_67 rfl 2 rfl ?_
  refine s_aload_n o dX1_judge_68 rfl 0 rfl ?_
  refine r_getf (vA (mg Γ)) rfl o cf_X15_functions (Or.inr (Or.inl ⟨_, q1058⟩)) dX1_judge_69 (fun v1 hv1 => ?_)
  refine s_cvC (d := d + 405) (As := []) (st := [vI l2]) (c := 27) o (sc_J13_size (mg Γ) (d + 405) ts v1) mw_J13_size rfl (Or.inl (lw_all_tbl q1631)) rfl (lw_all_tbl q1359) (lw_all_tbl q1358) (wt_I wt_0) rfl dX1_judge_72 rfl (rs := fun r => [vI r, vI l2]) (fun _ => rfl) (fun v2 hv2 => ?_)
  refine s_icmp_ge (tgt := 115) o dX1_judge_75 (by decide) hl2 (hv2 _ rfl) ?_ ?_
  · refine r_to [(0, vA (mg Γ) l0), (1, vI l1)] [0, 1] rfl ?_
    exact s_lo (hk_115 l0 l1 hl1)
  · refine s_aload_n o dX1_judge_78 rfl 0 rfl ?_
    refine r_getf (vA (mg Γ)) rfl o cf_X15_functions (Or.inr (Or.inl ⟨_, q1058⟩)) dX1_judge_79 (fun v3 hv3 => ?_)
    refine s_iload_n o dX1_judge_82 rfl 2 rfl ?_
    refine s_cvC (d := d + 405) (As := [vI l2]) (st := []) (c := 27) o (sc_J13_get (mg Γ) (d + 403) ts v3 l2 hl2) mw_J13_get rfl (Or.inl (lw_all_tbl q1632)) rfl (lw_all_tbl q1268) (lw_all_tbl q1267) wt_0 rfl dX1_judge_83 rfl (rs := fun r => [vA (mg Γ) r]) (fun _ => rfl) (fun v4 hv4 => ?_)
    refine s_cast o (cs_X16 o) (lw_all_tbl q1633) dX1_judge_86 ?_
    refine s_aload_n o dX1_judge_89 rfl 0 rfl ?_
    refine r_getf (vA (mg Γ)) rfl o cf_X15_some (Or.inr (Or.inl ⟨_, q1065⟩)) dX1_judge_90 (fun v5 hv5 => ?_)
    refine s_cs (d := d + 405) (As := [vA (mg Γ) v4, vA (mg Γ) v5]) (st := []) o (sc_X1_isRaised (mg Γ) (d + 200) ts v4 v5) mw_X1_isRaised rfl (Or.inl (lw_all_tbl q1635)) (lw_all_tbl q1636) wt_0 rfl dX1_judge_93 rfl (rs := fun r => [vI r]) (fun _ => rfl) (fun v6 hv6 => ?_)
    refine s_if_ne (tgt := 103) o dX1_judge_96 (by decide) (rZ (hv6 _ rfl)) ?_ ?_
    · refine r_to [(0, vA (mg Γ) l0), (2, vI l2)] [0, 2] rfl ?_
      exact sc_X1_judge_103 o k_115 hk_115 l0 l2 hl2
    · refine s_iload_n o dX1_judge_99 rfl 1 rfl ?_
      refine s_if_eq (tgt := 107) o dX1_judge_100 (by decide) (rZ hl1) ?_ ?_
      · refine s_iconst o dX1_judge_107 ?_
        refine r_to [(0, vA (mg Γ) l0), (2, vI l2)] [0, 2] rfl ?_
        exact sc_X1_judge_108 o k_115 hk_115 l0 l2 0 hl2 (Or.inl rfl)
      · refine r_to [(0, vA (mg Γ) l0), (2, vI l2)] [0, 2] rfl ?_
        exact sc_X1_judge_103 o k_115 hk_115 l0 l2 hl2
noncomputable def c_X1_judge_67 {A : Type} (k_115 : Int → Int → Mo CH A) (l0 : Int) (l1 : Int) (l2 : Int) : Mo CH A := Loop (fun x => c_X1_judge_67b k_115 x.1 x.2.1 x.2.2) (l0, l1, l2)
theorem sc_X1_judge_67 {Γ : Gm} {ts : TS} {d : Nat} (o : Ok Γ "LazyForge" cX1_judge 7 (Option.none : Option Jvm.ClassFile.FieldType) (d + 406)) {A : Type} {K : A → CH → Prop} (k_115 : Int → Int → Mo CH A) (hk_115 : ∀ (l0 : Int) (l1 : Int), rg .boolean l1 → Sx Γ (fun h => (h, ts)) K 115 [(0, vA (mg Γ) l0), (1, vI l1)] [] (k_115 l0 l1)) (l0 : Int) (l1 : Int) (l2 : Int) (hl1 : rg .boolean l1) (hl2 : R32 l2) : Sx Γ (fun h => (h, ts)) K 67 [(0, vA (mg Γ) l0), (1, vI l1), (2, vI l2)] [] (c_X1_judge_67 k_115 l0 l1 l2) :=
  s_loop okc_X1_judge_67 (lvc_X1_judge_67 Γ) (fun x hx => sc_X1_judge_67b o k_115 hk_115 x.1 x.2.1 x.2.2 hx.1 hx.2) (x := (l0, l1, l2)) ⟨hl1, hl2⟩
abbrev okc_X1_judge_160 (x : Int × Int × Int × Int × Int × Int) : Prop := R32 x.2.1 ∧ R32 x.2.2.2.1 ∧ R32 x.2.2.2.2.1 ∧ R32 x.2.2.2.2.2
abbrev lvc_X1_judge_160 (Γ : Gm) (x : Int × Int × Int × Int × Int × Int) : List (Nat × Value) := [(0, vA (mg Γ) x.1), (2, vI x.2.1), (3, vA (mg Γ) x.2.2.1), (4, vI x.2.2.2.1), (5, vI x.2.2.2.2.1), (6, vI x.2.2.2.2.2)]
noncomputable def c_X1_judge_194 {A : Type} (k_204 : Int → Int → Int → Mo CH A) (l0 : Int) (l2 : Int) (l3 : Int) (l4 : Int) (l5 : Int) (l6 : Int) (k0 : Int) (k1 : Int) (k2 : Int) : Mo CH ((Int × Int × Int × Int × Int × Int) ⊕ A) :=
  bnd (pf [116] 9 k2 (ior k1 k0)) fun _ =>
  pr (.inl (l0, l2, l3, l4, l5, (w32 (l6 + 1))))
theorem sc_X1_judge_194 {Γ : Gm} {ts : TS} {d : Nat} (o : Ok Γ "LazyForge" cX1_judge 7 (Option.none : Option Jvm.ClassFile.FieldType) (d + 406)) {A : Type} {K : A → CH → Prop}  (k_204 : Int → Int → Int → Mo CH A) (hk_204 : ∀ (l0 : Int) (l2 : Int) (l3 : Int), R32 l2 → Sx Γ (fun h => (h, ts)) K 204 [(0, vA (mg Γ) l0), (2, vI l2), (3, vA (mg Γ) l3)] [] (k_204 l0 l2 l3)) (l0 : Int) (l2 : Int) (l3 : Int) (l4 : Int) (l5 : Int) (l6 : Int) (k0 : Int) (k1 : Int) (k2 : Int) (hl2 : R32 l2) (hl4 : R32 l4) (hl5 : R32 l5) (hl6 : R32 l6) (hk0 : R32 k0) (hk1 : R32 k1) : Sx Γ (fun h => (h, ts)) (KL Γ (fun h => (h, ts)) okc_X1_judge_160 K 160 (lvc_X1_judge_160 Γ) []) 194 [(0, vA (mg Γ) l0), (2, vI l2), (3, vA (mg Γ) l3), (4, vI l4), (5, vI l5), (6, vI l6)] [vI k0, vI k1, vA (mg Γ) k2] (c_X1_judge_194 k_204 l0 l2 l3 l4 l5 l6 k0 k1 k2) := by
  unfold c_X1_judge_194
  refine s_ior o dX1_judge_194 ?_
  refine r_putf vI rfl o cf_X16_needs (Or.inr (Or.inl ⟨_, q1167⟩)) dX1_judge_195 (Or.inl rfl) (ior_R _ _) ty_int ?_
  refine r_iinc (j := 5) o dX1_judge_198 rfl rfl [(0, vA (mg Γ) l0), (2, vI l2), (3, vA (mg Γ) l3), (4, vI l4), (5, vI l5)] [0, 1, 2, 3, 4] rfl ⟨(Nat.ne_of_beq_eq_false rfl), (fun _ => (vA_cat (mg Γ) l0)), ⟨(Nat.ne_of_beq_eq_false rfl), (fun _ => rfl), ⟨(Nat.ne_of_beq_eq_false rfl), (fun _ => (vA_cat (mg Γ) l3)), ⟨(Nat.ne_of_beq_eq_false rfl), (fun _ => rfl), ⟨(Nat.ne_of_beq_eq_false rfl), (fun _ => rfl), trivial⟩⟩⟩⟩⟩ ?_
  refine s_goto (tgt := 160) o dX1_judge_201 (by decide) ?_
  refine r_to [(0, vA (mg Γ) l0), (2, vI l2), (3, vA (mg Γ) l3), (4, vI l4), (5, vI l5), (6, vI (w32 (l6 + 1)))] [1, 2, 3, 4, 5, 0] rfl ?_
  exact s_back (⟨hl2, hl4, hl5, (w32_R _)⟩) rfl
noncomputable def c_X1_judge_160b {A : Type} (k_204 : Int → Int → Int → Mo CH A) (l0 : Int) (l2 : Int) (l3 : Int) (l4 : Int) (l5 : Int) (l6 : Int) : Mo CH ((Int × Int × Int × Int × Int × Int) ⊕ A) :=
  if l4 ≤ l6 then
    lo (k_204 l0 l2 l3)
  else
    bnd (gf [116] 9 l3) fun v1 =>
    bnd (isk 116 l3) fun _ =>
    bnd (c_X16_at l3 (ixor l5 (ishl 1 l6))) fun v2 =>
    if v2 = 0 then
      c_X1_judge_194 k_204 l0 l2 l3 l4 l5 l6 (ishl 1 l6) v1 l3
    else
      c_X1_judge_194 k_204 l0 l2 l3 l4 l5 l6 0 v1 l3
theorem sc_X1_judge_160b {Γ : Gm} {ts : TS} {d : Nat} (o : Ok Γ "LazyForge" cX1_judge 7 (Option.none : Option Jvm.ClassFile.FieldType) (d + 406)) {A : Type} {K : A → CH → Prop} (k_204 : Int → Int → Int → Mo CH A) (hk_204 : ∀ (l0 : Int) (l2 : Int) (l3 : Int), R32 l2 → Sx Γ (fun h => (h, ts)) K 204 [(0, vA (mg Γ) l0), (2, vI l2), (3, vA (mg Γ) l3)] [] (k_204 l0 l2 l3)) (l0 : Int) (l2 : Int) (l3 : Int) (l4 : Int) (l5 : Int) (l6 : Int) (hl2 : R32 l2) (hl4 : R32 l4) (hl5 : R32 l5) (hl6 : R32 l6) : Sx Γ (fun h => (h, ts)) (KL Γ (fun h => (h, ts)) okc_X1_judge_160 K 160 (lvc_X1_judge_160 Γ) []) 160 [(0, vA (mg Γ) l0), (2, vI l2), (3, vA (mg Γ) l3), (4, vI l4), (5, vI l5), (6, vI l6)] [] (c_X1_judge_160b k_204 l0 l2 l3 l4 l5 l6) := by
  unfold c_X1_judge_160b
  refine s_iload o dX1_judge_160 5 rfl ?_
  refine s_iload o dX1_judge_162 3 rfl ?_
  refine s_icmp_ge (tgt := 204) o dX1_judge_164 (by decide) hl6 hl4 ?_ ?_
  · refine r_to [(0, vA (mg Γ) l0), (2, vI l2), (3, vA (mg Γ) l3)] [0, 1, 2] rfl ?_
    exact s_lo (hk_204 l0 l2 l3 hl2)
  · refine s_aload_n o dX1_judge_167 rfl 2 rfl ?_
    refine s_dup o dX1_judge_168 (vA_cat (mg Γ) l3) ?_
    refine r_getf vI rfl o cf_X16_needs (Or.inr (Or.inl ⟨_, q1167⟩)) dX1_judge_169 (fun v1 hv1 => ?_)
    refine s_aload_n o dX1_judge_172 rfl 2 rfl ?_
    refine s_iload o dX1_judge_173 4 rfl ?_
    refine s_iconst o dX1_judge_175 ?_
    refine s_iload o dX1_judge_176 5 rfl ?_
    refine s_ishl o dX1_judge_178 ?_
    refine s_ixor o dX1_judge_179 ?_
    refine s_cvC (d := d + 405) (As := [vI (ixor l5 (ishl 1 l6))]) (st := [vI v1, vA (mg Γ) l3]) (c := 16) o (sc_X16_at (mg Γ) (d + 405) ts l3 (ixor l5 (ishl 1 l6)) (ixor_R _ _)) mw_X16_at rfl (Or.inl (lw_all_tbl q1638)) rfl (lw_all_tbl q1640) (lw_all_tbl q1639) (wt_I (wt_A wt_0)) rfl dX1_judge_180 rfl (rs := fun r => [vI r, vI v1, vA (mg Γ) l3]) (fun _ => rfl) (fun v2 hv2 => ?_)
    refine s_if_eq (tgt := 190) o dX1_judge_183 (by decide) (rZ (hv2 _ rfl)) ?_ ?_
    · refine s_iconst o dX1_judge_190 ?_
      refine s_iload o dX1_judge_191 5 rfl ?_
      refine s_ishl o dX1_judge_193 ?_
      exact sc_X1_judge_194 o k_204 hk_204 l0 l2 l3 l4 l5 l6 (ishl 1 l6) v1 l3 hl2 hl4 hl5 hl6 (ishl_R _ _) hv1
    · refine s_iconst o dX1_judge_186 ?_
      refine s_goto (tgt := 194) o dX1_judge_187 (by decide) ?_
      exact sc_X1_judge_194 o k_204 hk_204 l0 l2 l3 l4 l5 l6 0 v1 l3 hl2 hl4 hl5 hl6 (r32 rfl) hv1
noncomputable def c_X1_judge_160 {A : Type} (k_204 : Int → Int → Int → Mo CH A) (l0 : Int) (l2 : Int) (l3 : Int) (l4 : Int) (l5 : Int) (l6 : Int) : Mo CH A := Loop (fun x => c_X1_judge_160b k_204 x.1 x.2.1 x.2.2.1 x.2.2.2.1 x.2.2.2.2.1 x.2.2.2.2.2) (l0, l2, l3, l4, l5, l6)
theorem sc_X1_judge_160 {Γ : Gm} {ts : TS} {d : Nat} (o : Ok Γ "LazyForge" cX1_judge 7 (Option.none : Option Jvm.ClassFile.FieldType) (d + 406)) {A : Type} {K : A → CH → Prop} (k_204 : Int → Int → Int → Mo CH A) (hk_204 : ∀ (l0 : Int) (l2 : Int) (l3 : Int), R32 l2 → Sx Γ (fun h => (h, ts)) K 204 [(0, vA (mg Γ) l0), (2, vI l2), (3, vA (mg Γ) l3)] [] (k_204 l0 l2 l3)) (l0 : Int) (l2 : Int) (l3 : Int) (l4 : Int) (l5 : Int) (l6 : Int) (hl2 : R32 l2) (hl4 : R32 l4) (hl5 : R32 l5) (hl6 : R32 l6) : Sx Γ (fun h => (h, ts)) K 160 [(0, vA (mg Γ) l0), (2, vI l2), (3, vA (mg Γ) l3), (4, vI l4), (5, vI l5), (6, vI l6)] [] (c_X1_judge_160 k_204 l0 l2 l3 l4 l5 l6) :=
  s_loop okc_X1_judge_160 (lvc_X1_judge_160 Γ) (fun x hx => sc_X1_judge_160b o k_204 hk_204 x.1 x.2.1 x.2.2.1 x.2.2.2.1 x.2.2.2.2.1 x.2.2.2.2.2 hx.1 hx.2.1 hx.2.2.1 hx.2.2.2) (x := (l0, l2, l3, l4, l5, l6)) ⟨hl2, hl4, hl5, hl6⟩
abbrev okc_X1_judge_2 (x : Int × Int) : Prop := R32 x.2
abbrev lvc_X1_judge_2 (Γ : Gm) (x : Int × Int) : List (Nat × Value) := [(0, vA (mg Γ) x.1), (1, vI x.2)]
noncomputable def c_X1_judge_2b {A : Type} (k_57 : Int → Mo CH A) (l0 : Int) (l1 : Int) : Mo CH ((Int × Int) ⊕ A) :=
  bnd (gf [115] 0 l0) fun v1 =>
  bnd (isk 127 v1) fun _ =>
  bnd (c_J13_size v1) fun v2 =>
  if v2 ≤ l1 then
    lo (k_57 l0)
  else
    bnd (gf [115] 0 l0) fun v3 =>
    bnd (isk 127 v3) fun _ =>
    bnd (c_J13_get v3 l1) fun v4 =>
    bnd (ckk [116] v4) fun _ =>
    bnd (gf [115] 0 l0) fun v5 =>
    bnd (isk 127 v5) fun _ =>
    bnd (c_J13_get v5 l1) fun v6 =>
    bnd (ckk [116] v6) fun _ =>
    bnd (isk 116 v6) fun _ =>
    bnd (c_X16_parameters v6) fun v7 =>
    bnd (newa 1 (ishr (w32 ((ishl 1 v7) + 63)) 6)) fun v8 =>
    bnd (pf [116] 8 v4 v8) fun _ =>
    pr (.inl (l0, (w32 (l1 + 1))))
theorem sc_X1_judge_2b {Γ : Gm} {ts : TS} {d : Nat} (o : Ok Γ "LazyForge" cX1_judge 7 (Option.none : Option Jvm.ClassFile.FieldType) (d + 406)) {A : Type} {K : A → CH → Prop} (k_57 : Int → Mo CH A) (hk_57 : ∀ (l0 : Int), Sx Γ (fun h => (h, ts)) K 57 [(0, vA (mg Γ) l0)] [] (k_57 l0)) (l0 : Int) (l1 : Int) (hl1 : R32 l1) : Sx Γ (fun h => (h, ts)) (KL Γ (fun h => (h, ts)) okc_X1_judge_2 K 2 (lvc_X1_judge_2 Γ) []) 2 [(0, vA (mg Γ) l0), (1, vI l1)] [] (c_X1_judge_2b k_57 l0 l1) := by
  unfold c_X1_judge_2b
  refine s_iload_n o dX1_judge_2 rfl 1 rfl ?_
  refine s_aload_n o dX1_judge_3 rfl 0 rfl ?_
  refine r_getf (vA (mg Γ)) rfl o cf_X15_functions (Or.inr (Or.inl ⟨_, q1058⟩)) dX1_judge_4 (fun v1 hv1 => ?_)
  refine s_cvC (d := d + 405) (As := []) (st := [vI l1]) (c := 27) o (sc_J13_size (mg Γ) (d + 405) ts v1) mw_J13_size rfl (Or.inl (lw_all_tbl q1631)) rfl (lw_all_tbl q1359) (lw_all_tbl q1358) (wt_I wt_0) rfl dX1_judge_7 rfl (rs := fun r => [vI r, vI l1]) (fun _ => rfl) (fun v2 hv2 => ?_)
  refine s_icmp_ge (tgt := 57) o dX1_judge_10 (by decide) hl1 (hv2 _ rfl) ?_ ?_
  · refine r_to [(0, vA (mg Γ) l0)] [0] rfl ?_
    exact s_lo (hk_57 l0)
  · refine s_aload_n o dX1_judge_13 rfl 0 rfl ?_
    refine r_getf (vA (mg Γ)) rfl o cf_X15_functions (Or.inr (Or.inl ⟨_, q1058⟩)) dX1_judge_14 (fun v3 hv3 => ?_)
    refine s_iload_n o dX1_judge_17 rfl 1 rfl ?_
    refine s_cvC (d := d + 405) (As := [vI l1]) (st := []) (c := 27) o (sc_J13_get (mg Γ) (d + 403) ts v3 l1 hl1) mw_J13_get rfl (Or.inl (lw_all_tbl q1632)) rfl (lw_all_tbl q1268) (lw_all_tbl q1267) wt_0 rfl dX1_judge_18 rfl (rs := fun r => [vA (mg Γ) r]) (fun _ => rfl) (fun v4 hv4 => ?_)
    refine s_cast o (cs_X16 o) (lw_all_tbl q1633) dX1_judge_21 ?_
    refine s_iconst o dX1_judge_24 ?_
    refine s_aload_n o dX1_judge_25 rfl 0 rfl ?_
    refine r_getf (vA (mg Γ)) rfl o cf_X15_functions (Or.inr (Or.inl ⟨_, q1058⟩)) dX1_judge_26 (fun v5 hv5 => ?_)
    refine s_iload_n o dX1_judge_29 rfl 1 rfl ?_
    refine s_cvC (d := d + 405) (As := [vI l1]) (st := [vI 1, vA (mg Γ) v4]) (c := 27) o (sc_J13_get (mg Γ) (d + 403) ts v5 l1 hl1) mw_J13_get rfl (Or.inl (lw_all_tbl q1632)) rfl (lw_all_tbl q1268) (lw_all_tbl q1267) (wt_I (wt_A wt_0)) rfl dX1_judge_30 rfl (rs := fun r => [vA (mg Γ) r, vI 1, vA (mg Γ) v4]) (fun _ => rfl) (fun v6 hv6 => ?_)
    refine s_cast o (cs_X16 o) (lw_all_tbl q1633) dX1_judge_33 ?_
    refine s_cvC (d := d + 405) (As := []) (st := [vI 1, vA (mg Γ) v4]) (c := 16) o (sc_X16_parameters (mg Γ) (d + 404) ts v6) mw_X16_parameters rfl (Or.inl (lw_all_tbl q1634)) rfl (lw_all_tbl q1606) (lw_all_tbl q1605) (wt_I (wt_A wt_0)) rfl dX1_judge_36 rfl (rs := fun r => [vI r, vI 1, vA (mg Γ) v4]) (fun _ => rfl) (fun v7 hv7 => ?_)
    refine s_ishl o dX1_judge_39 ?_
    refine s_bipush o dX1_judge_40 rfl ?_
    refine s_iadd o dX1_judge_42 ?_
    refine s_bipush o dX1_judge_43 rfl ?_
    refine s_ishr o dX1_judge_45 ?_
    refine s_newa (kd := 1) o (by decide) rfl (by decide) (o.ra (by decide)) (lw_all_tbl q438) (ishr_R _ _) dX1_judge_46 (fun v8 hv8 => ?_)
    refine r_putf (vA (mg Γ)) rfl o cf_X16_table (Or.inr (Or.inl ⟨_, q1165⟩)) dX1_judge_48 (Or.inl rfl) trivial (ty_array _) ?_
    refine r_iinc (j := 1) o dX1_judge_51 rfl rfl [(0, vA (mg Γ) l0)] [0] rfl ⟨(Nat.ne_of_beq_eq_false rfl), (fun _ => (vA_cat (mg Γ) l0)), trivial⟩ ?_
    refine s_goto (tgt := 2) o dX1_judge_54 (by decide) ?_
    refine r_to [(0, vA (mg Γ) l0), (1, vI (w32 (l1 + 1)))] [1, 0] rfl ?_
    exact s_back (w32_R _) rfl
noncomputable def c_X1_judge_2 {A : Type} (k_57 : Int → Mo CH A) (l0 : Int) (l1 : Int) : Mo CH A := Loop (fun x => c_X1_judge_2b k_57 x.1 x.2) (l0, l1)
theorem sc_X1_judge_2 {Γ : Gm} {ts : TS} {d : Nat} (o : Ok Γ "LazyForge" cX1_judge 7 (Option.none : Option Jvm.ClassFile.FieldType) (d + 406)) {A : Type} {K : A → CH → Prop} (k_57 : Int → Mo CH A) (hk_57 : ∀ (l0 : Int), Sx Γ (fun h => (h, ts)) K 57 [(0, vA (mg Γ) l0)] [] (k_57 l0)) (l0 : Int) (l1 : Int) (hl1 : R32 l1) : Sx Γ (fun h => (h, ts)) K 2 [(0, vA (mg Γ) l0), (1, vI l1)] [] (c_X1_judge_2 k_57 l0 l1) :=
  s_loop okc_X1_judge_2 (lvc_X1_judge_2 Γ) (fun x hx => sc_X1_judge_2b o k_57 hk_57 x.1 x.2 hx) (x := (l0, l1)) hl1
abbrev okc_X1_judge_59 (x : Int × Int) : Prop := rg .boolean x.2
abbrev lvc_X1_judge_59 (Γ : Gm) (x : Int × Int) : List (Nat × Value) := [(0, vA (mg Γ) x.1), (1, vI x.2)]
noncomputable def c_X1_judge_59b {A : Type} (k_118 : Int → Mo CH A) (l0 : Int) (l1 : Int) : Mo CH ((Int × Int) ⊕ A) :=
  if l1 = 0 then
    lo (k_118 l0)
  else
    c_X1_judge_67
      (fun v1 v2 => pr (.inl (v1, v2))) l0 0 0
theorem sc_X1_judge_59b {Γ : Gm} {ts : TS} {d : Nat} (o : Ok Γ "LazyForge" cX1_judge 7 (Option.none : Option Jvm.ClassFile.FieldType) (d + 406)) {A : Type} {K : A → CH → Prop} (k_118 : Int → Mo CH A) (hk_118 : ∀ (l0 : Int), Sx Γ (fun h => (h, ts)) K 118 [(0, vA (mg Γ) l0)] [] (k_118 l0)) (l0 : Int) (l1 : Int) (hl1 : rg .boolean l1) : Sx Γ (fun h => (h, ts)) (KL Γ (fun h => (h, ts)) okc_X1_judge_59 K 59 (lvc_X1_judge_59 Γ) []) 59 [(0, vA (mg Γ) l0), (1, vI l1)] [] (c_X1_judge_59b k_118 l0 l1) := by
  unfold c_X1_judge_59b
  refine s_iload_n o dX1_judge_59 rfl 1 rfl ?_
  refine s_if_eq (tgt := 118) o dX1_judge_60 (by decide) (rZ hl1) ?_ ?_
  · refine r_to [(0, vA (mg Γ) l0)] [0] rfl ?_
    exact s_lo (hk_118 l0)
  · refine s_iconst o dX1_judge_63 ?_
    refine r_istore_nP o dX1_judge_64 rfl rfl [(0, vA (mg Γ) l0)] [0] rfl ⟨(Nat.ne_of_beq_eq_false rfl), (fun _ => (vA_cat (mg Γ) l0)), trivial⟩ ?_
    refine s_iconst o dX1_judge_65 ?_
    refine r_istore_n o dX1_judge_66 rfl rfl ⟨(Nat.ne_of_beq_eq_false rfl), (fun _ => rfl), ⟨(Nat.ne_of_beq_eq_false rfl), (fun _ => (vA_cat (mg Γ) l0)), trivial⟩⟩ ?_
    refine r_to [(0, vA (mg Γ) l0), (1, vI 0), (2, vI 0)] [2, 1, 0] rfl ?_
    refine sc_X1_judge_67 o _ ?_ l0 0 0 (Or.inl rfl) (r32 rfl)
    · intro v1 v2 hv2
      refine s_goto (tgt := 59) o dX1_judge_115 (by decide) ?_
      exact s_back hv2 rfl
noncomputable def c_X1_judge_59 {A : Type} (k_118 : Int → Mo CH A) (l0 : Int) (l1 : Int) : Mo CH A := Loop (fun x => c_X1_judge_59b k_118 x.1 x.2) (l0, l1)
theorem sc_X1_judge_59 {Γ : Gm} {ts : TS} {d : Nat} (o : Ok Γ "LazyForge" cX1_judge 7 (Option.none : Option Jvm.ClassFile.FieldType) (d + 406)) {A : Type} {K : A → CH → Prop} (k_118 : Int → Mo CH A) (hk_118 : ∀ (l0 : Int), Sx Γ (fun h => (h, ts)) K 118 [(0, vA (mg Γ) l0)] [] (k_118 l0)) (l0 : Int) (l1 : Int) (hl1 : rg .boolean l1) : Sx Γ (fun h => (h, ts)) K 59 [(0, vA (mg Γ) l0), (1, vI l1)] [] (c_X1_judge_59 k_118 l0 l1) :=
  s_loop okc_X1_judge_59 (lvc_X1_judge_59 Γ) (fun x hx => sc_X1_judge_59b o k_118 hk_118 x.1 x.2 hx) (x := (l0, l1)) hl1
abbrev okc_X1_judge_120 (x : Int × Int) : Prop := R32 x.2
abbrev lvc_X1_judge_120 (Γ : Gm) (x : Int × Int) : List (Nat × Value) := [(0, vA (mg Γ) x.1), (2, vI x.2)]
noncomputable def c_X1_judge_233 {A : Type} (k_239 : Mo CH A) (l0 : Int) (l2 : Int) : Mo CH ((Int × Int) ⊕ A) :=
  pr (.inl (l0, (w32 (l2 + 1))))
theorem sc_X1_judge_233 {Γ : Gm} {ts : TS} {d : Nat} (o : Ok Γ "LazyForge" cX1_judge 7 (Option.none : Option Jvm.ClassFile.FieldType) (d + 406)) {A : Type} {K : A → CH → Prop}  (k_239 : Mo CH A) (hk_239 : Sx Γ (fun h => (h, ts)) K 239 [] [] (k_239)) (l0 : Int) (l2 : Int) (hl2 : R32 l2) : Sx Γ (fun h => (h, ts)) (KL Γ (fun h => (h, ts)) okc_X1_judge_120 K 120 (lvc_X1_judge_120 Γ) []) 233 [(0, vA (mg Γ) l0), (2, vI l2)] [] (c_X1_judge_233 k_239 l0 l2) := by
  unfold c_X1_judge_233
  refine r_iinc (j := 1) o dX1_judge_233 rfl rfl [(0, vA (mg Γ) l0)] [0] rfl ⟨(Nat.ne_of_beq_eq_false rfl), (fun _ => (vA_cat (mg Γ) l0)), trivial⟩ ?_
  refine s_goto (tgt := 120) o dX1_judge_236 (by decide) ?_
  refine r_to [(0, vA (mg Γ) l0), (2, vI (w32 (l2 + 1)))] [1, 0] rfl ?_
  exact s_back (w32_R _) rfl
noncomputable def c_X1_judge_120b {A : Type} (k_239 : Mo CH A) (l0 : Int) (l2 : Int) : Mo CH ((Int × Int) ⊕ A) :=
  bnd (gf [115] 0 l0) fun v1 =>
  bnd (isk 127 v1) fun _ =>
  bnd (c_J13_size v1) fun v2 =>
  if v2 ≤ l2 then
    lo k_239
  else
    bnd (gf [115] 0 l0) fun v3 =>
    bnd (isk 127 v3) fun _ =>
    bnd (c_J13_get v3 l2) fun v4 =>
    bnd (ckk [116] v4) fun _ =>
    bnd (isk 116 v4) fun _ =>
    bnd (c_X16_parameters v4) fun v5 =>
    c_X1_judge_160
      (fun v6 v7 v8 => bnd (gf [116] 6 v8) fun v9 =>
    bnd (v_X4_prepare v9 v6 v8) fun _ =>
    bnd (gf [116] 6 v8) fun v10 =>
    bnd (gf [106, 107, 108, 109, 110, 118, 119, 120, 121, 122, 123, 124, 125, 126] 2 v10) fun v11 =>
    if ¬ v11 = (-1) then
      c_X1_judge_233 k_239 v6 v7
    else
      bnd (gf [116] 6 v8) fun v12 =>
      bnd (v_X4_mayWait v12 v6 v8) fun _ =>
      c_X1_judge_233 k_239 v6 v7) l0 l2 v4 v5 (w32 ((ishl 1 v5) - 1)) 0
theorem sc_X1_judge_120b {Γ : Gm} {ts : TS} {d : Nat} (o : Ok Γ "LazyForge" cX1_judge 7 (Option.none : Option Jvm.ClassFile.FieldType) (d + 406)) {A : Type} {K : A → CH → Prop} (k_239 : Mo CH A) (hk_239 : Sx Γ (fun h => (h, ts)) K 239 [] [] (k_239)) (l0 : Int) (l2 : Int) (hl2 : R32 l2) : Sx Γ (fun h => (h, ts)) (KL Γ (fun h => (h, ts)) okc_X1_judge_120 K 120 (lvc_X1_judge_120 Γ) []) 120 [(0, vA (mg Γ) l0), (2, vI l2)] [] (c_X1_judge_120b k_239 l0 l2) := by
  unfold c_X1_judge_120b
  refine s_iload_n o dX1_judge_120 rfl 1 rfl ?_
  refine s_aload_n o dX1_judge_121 rfl 0 rfl ?_
  refine r_getf (vA (mg Γ)) rfl o cf_X15_functions (Or.inr (Or.inl ⟨_, q1058⟩)) dX1_judge_122 (fun v1 hv1 => ?_)
  refine s_cvC (d := d + 405) (As := []) (st := [vI l2]) (c := 27) o (sc_J13_size (mg Γ) (d + 405) ts v1) mw_J13_size rfl (Or.inl (lw_all_tbl q1631)) rfl (lw_all_tbl q1359) (lw_all_tbl q1358) (wt_I wt_0) rfl dX1_judge_125 rfl (rs := fun r => [vI r, vI l2]) (fun _ => rfl) (fun v2 hv2 => ?_)
  refine s_icmp_ge (tgt := 239) o dX1_judge_128 (by decide) hl2 (hv2 _ rfl) ?_ ?_
  · refine r_to [] [] rfl ?_
    exact s_lo hk_239
  · refine s_aload_n o dX1_judge_131 rfl 0 rfl ?_
    refine r_getf (vA (mg Γ)) rfl o cf_X15_functions (Or.inr (Or.inl ⟨_, q1058⟩)) dX1_judge_132 (fun v3 hv3 => ?_)
    refine s_iload_n o dX1_judge_135 rfl 1 rfl ?_
    refine s_cvC (d := d + 405) (As := [vI l2]) (st := []) (c := 27) o (sc_J13_get (mg Γ) (d + 403) ts v3 l2 hl2) mw_J13_get rfl (Or.inl (lw_all_tbl q1632)) rfl (lw_all_tbl q1268) (lw_all_tbl q1267) wt_0 rfl dX1_judge_136 rfl (rs := fun r => [vA (mg Γ) r]) (fun _ => rfl) (fun v4 hv4 => ?_)
    refine s_cast o (cs_X16 o) (lw_all_tbl q1633) dX1_judge_139 ?_
    refine r_astore_n o dX1_judge_142 rfl rfl ⟨(Nat.ne_of_beq_eq_false rfl), (fun _ => (vA_cat (mg Γ) l0)), ⟨(Nat.ne_of_beq_eq_false rfl), (fun _ => rfl), trivial⟩⟩ ?_
    refine s_aload_n o dX1_judge_143 rfl 0 rfl ?_
    refine s_cvC (d := d + 405) (As := []) (st := []) (c := 16) o (sc_X16_parameters (mg Γ) (d + 404) ts v4) mw_X16_parameters rfl (Or.inl (lw_all_tbl q1634)) rfl (lw_all_tbl q1606) (lw_all_tbl q1605) wt_0 rfl dX1_judge_144 rfl (rs := fun r => [vI r]) (fun _ => rfl) (fun v5 hv5 => ?_)
    refine r_istore o dX1_judge_147 rfl ⟨(Nat.ne_of_beq_eq_false rfl), (fun _ => (vA_cat (mg Γ) v4)), ⟨(Nat.ne_of_beq_eq_false rfl), (fun _ => (vA_cat (mg Γ) l0)), ⟨(Nat.ne_of_beq_eq_false rfl), (fun _ => rfl), trivial⟩⟩⟩ ?_
    refine s_iconst o dX1_judge_149 ?_
    refine s_iload o dX1_judge_150 0 rfl ?_
    refine s_ishl o dX1_judge_152 ?_
    refine s_iconst o dX1_judge_153 ?_
    refine s_isub o dX1_judge_154 ?_
    refine r_istore o dX1_judge_155 rfl ⟨(Nat.ne_of_beq_eq_false rfl), (fun _ => rfl), ⟨(Nat.ne_of_beq_eq_false rfl), (fun _ => (vA_cat (mg Γ) v4)), ⟨(Nat.ne_of_beq_eq_false rfl), (fun _ => (vA_cat (mg Γ) l0)), ⟨(Nat.ne_of_beq_eq_false rfl), (fun _ => rfl), trivial⟩⟩⟩⟩ ?_
    refine s_iconst o dX1_judge_157 ?_
    refine r_istore o dX1_judge_158 rfl ⟨(Nat.ne_of_beq_eq_false rfl), (fun _ => rfl), ⟨(Nat.ne_of_beq_eq_false rfl), (fun _ => rfl), ⟨(Nat.ne_of_beq_eq_false rfl), (fun _ => (vA_cat (mg Γ) v4)), ⟨(Nat.ne_of_beq_eq_false rfl), (fun _ => (vA_cat (mg Γ) l0)), ⟨(Nat.ne_of_beq_eq_false rfl), (fun _ => rfl), trivial⟩⟩⟩⟩⟩ ?_
    refine r_to [(0, vA (mg Γ) l0), (2, vI l2), (3, vA (mg Γ) v4), (4, vI v5), (5, vI (w32 ((ishl 1 v5) - 1))), (6, vI 0)] [4, 5, 3, 2, 1, 0] rfl ?_
    refine sc_X1_judge_160 o _ ?_ l0 l2 v4 v5 (w32 ((ishl 1 v5) - 1)) 0 hl2 (hv5 _ rfl) (w32_R _) (r32 rfl)
    · intro v6 v7 v8 hv7
      refine s_aload_n o dX1_judge_204 rfl 2 rfl ?_
      refine r_getf (vA (mg Γ)) rfl o cf_X16_body (Or.inr (Or.inl ⟨_, q1160⟩)) dX1_judge_205 (fun v9 hv9 => ?_)
      refine s_aload_n o dX1_judge_208 rfl 0 rfl ?_
      refine s_aload_n o dX1_judge_209 rfl 2 rfl ?_
      refine s_cu (d := d + 405) (As := [vA (mg Γ) v6, vA (mg Γ) v8]) (st := []) (owner := "LazyForge$Part") o (sv_X4_prepare (mg Γ) d ts v9 v6 v8) rfl (lw_all_tbl q1743) (lw_all_tbl q1745) (Or.inl q1744) ⟨by decide, by decide⟩ (by decide +kernel) wt_0 rfl dX1_judge_210 rfl (rs := fun _ => []) (fun _ => rfl) (fun _ _ => ?_)
      refine s_aload_n o dX1_judge_213 rfl 2 rfl ?_
      refine r_getf (vA (mg Γ)) rfl o cf_X16_body (Or.inr (Or.inl ⟨_, q1160⟩)) dX1_judge_214 (fun v10 hv10 => ?_)
      refine r_getf vI rfl o cf_X4_number (Or.inr (Or.inl ⟨_, q261⟩)) dX1_judge_217 (fun v11 hv11 => ?_)
      refine s_iconst o dX1_judge_220 ?_
      refine s_icmp_ne (tgt := 233) o dX1_judge_221 (by decide) hv11 (r32 rfl) ?_ ?_
      · refine r_to [(0, vA (mg Γ) v6), (2, vI v7)] [0, 1] rfl ?_
        exact sc_X1_judge_233 o k_239 hk_239 v6 v7 hv7
      · refine s_aload_n o dX1_judge_224 rfl 2 rfl ?_
        refine r_getf (vA (mg Γ)) rfl o cf_X16_body (Or.inr (Or.inl ⟨_, q1160⟩)) dX1_judge_225 (fun v12 hv12 => ?_)
        refine s_aload_n o dX1_judge_228 rfl 0 rfl ?_
        refine s_aload_n o dX1_judge_229 rfl 2 rfl ?_
        refine s_cu (d := d + 405) (As := [vA (mg Γ) v6, vA (mg Γ) v8]) (st := []) (owner := "LazyForge$Part") o (sv_X4_mayWait (mg Γ) (d + 204) ts v12 v6 v8) rfl (lw_all_tbl q1893) (lw_all_tbl q3449) (Or.inl q1760) ⟨by decide, by decide⟩ (by decide +kernel) wt_0 rfl dX1_judge_230 rfl (rs := fun _ => []) (fun _ => rfl) (fun _ _ => ?_)
        refine r_to [(0, vA (mg Γ) v6), (2, vI v7)] [0, 1] rfl ?_
        exact sc_X1_judge_233 o k_239 hk_239 v6 v7 hv7
noncomputable def c_X1_judge_120 {A : Type} (k_239 : Mo CH A) (l0 : Int) (l2 : Int) : Mo CH A := Loop (fun x => c_X1_judge_120b k_239 x.1 x.2) (l0, l2)
theorem sc_X1_judge_120 {Γ : Gm} {ts : TS} {d : Nat} (o : Ok Γ "LazyForge" cX1_judge 7 (Option.none : Option Jvm.ClassFile.FieldType) (d + 406)) {A : Type} {K : A → CH → Prop} (k_239 : Mo CH A) (hk_239 : Sx Γ (fun h => (h, ts)) K 239 [] [] (k_239)) (l0 : Int) (l2 : Int) (hl2 : R32 l2) : Sx Γ (fun h => (h, ts)) K 120 [(0, vA (mg Γ) l0), (2, vI l2)] [] (c_X1_judge_120 k_239 l0 l2) :=
  s_loop okc_X1_judge_120 (lvc_X1_judge_120 Γ) (fun x hx => sc_X1_judge_120b o k_239 hk_239 x.1 x.2 hx) (x := (l0, l2)) hl2
noncomputable def c_X1_judge (l0 : Int) : Mo CH Int :=
  c_X1_judge_2
    (fun v1 => c_X1_judge_59
    (fun v2 => c_X1_judge_120
    (pr 0) v2 0) v1 1) l0 0
theorem sc_X1_judge (g : gC) (d : Nat) (ts : TS) (l0 : Int) : SF g yX1_judge (Cond.code yX1_judge cX1_judge 7 (Option.none : Option Jvm.ClassFile.FieldType)) (Option.none : Option Jvm.ClassFile.FieldType) (d + 406) [vA g l0] (fun h => (h, ts)) (c_X1_judge l0) := by
  refine SF.of (lv := [(0, vA g l0)]) (by decide) (wt_A wt_0) rfl (by simp only [la_A, la_I, la_J, la_0]) (fun Γ hg hnm o => ?_)
  subst hg
  have o : Ok Γ "LazyForge" cX1_judge 7 (Option.none : Option Jvm.ClassFile.FieldType) (d + 406) := o
  unfold c_X1_judge
  refine s_iconst o dX1_judge_0 ?_
  refine r_istore_n o dX1_judge_1 rfl rfl ⟨(Nat.ne_of_beq_eq_false rfl), (fun _ => (vA_cat (mg Γ) l0)), trivial⟩ ?_
  refine r_to [(0, vA (mg Γ) l0), (1, vI 0)] [1, 0] rfl ?_
  refine sc_X1_judge_2 o _ ?_ l0 0 (r32 rfl)
  · intro v1
    refine s_iconst o dX1_judge_57 ?_
    refine r_istore_n o dX1_judge_58 rfl rfl ⟨(Nat.ne_of_beq_eq_false rfl), (fun _ => (vA_cat (mg Γ) v1)), trivial⟩ ?_
    refine r_to [(0, vA (mg Γ) v1), (1, vI 1)] [1, 0] rfl ?_
    refine sc_X1_judge_59 o _ ?_ v1 1 (Or.inr rfl)
    · intro v2
      refine s_iconst o dX1_judge_118 ?_
      refine r_istore_n o dX1_judge_119 rfl rfl ⟨(Nat.ne_of_beq_eq_false rfl), (fun _ => (vA_cat (mg Γ) v2)), trivial⟩ ?_
      refine r_to [(0, vA (mg Γ) v2), (2, vI 0)] [1, 0] rfl ?_
      refine sc_X1_judge_120 o _ ?_ v2 0 (r32 rfl)
      · exact s_vret o rfl dX1_judge_239 (fun _ hh => hh)
theorem dX1_take_0 : decode cX1_take 0 = .ok (.aload_n 0, 1) := by decide +kernel
theorem dX1_take_1 : decode cX1_take 1 = .ok (.getfield 40, 3) := by decide +kernel
theorem dX1_take_4 : decode cX1_take 4 = .ok (.getfield 63, 3) := by decide +kernel
theorem dX1_take_7 : decode cX1_take 7 = .ok (.sipush 3000, 3) := by decide +kernel
theorem dX1_take_10 : decode cX1_take 10 = .ok (.if_icmp .le 5, 3) := by decide +kernel
theorem dX1_take_13 : decode cX1_take 13 = .ok (.iconst (-1), 1) := by decide +kernel
theorem dX1_take_14 : decode cX1_take 14 = .ok (.ireturn, 1) := by decide +kernel
theorem dX1_take_15 : decode cX1_take 15 = .ok (.aload_n 0, 1) := by decide +kernel
theorem dX1_take_16 : decode cX1_take 16 = .ok (.getfield 40, 3) := by decide +kernel
theorem dX1_take_19 : decode cX1_take 19 = .ok (.getfield 64, 3) := by decide +kernel
theorem dX1_take_22 : decode cX1_take 22 = .ok (.iconst 0, 1) := by decide +kernel
theorem dX1_take_23 : decode cX1_take 23 = .ok (.aload_n 0, 1) := by decide +kernel
theorem dX1_take_24 : decode cX1_take 24 = .ok (.getfield 29, 3) := by decide +kernel
theorem dX1_take_27 : decode cX1_take 27 = .ok (.iconst 0, 1) := by decide +kernel
theorem dX1_take_28 : decode cX1_take 28 = .ok (.aload_n 0, 1) := by decide +kernel
theorem dX1_take_29 : decode cX1_take 29 = .ok (.getfield 40, 3) := by decide +kernel
theorem dX1_take_32 : decode cX1_take 32 = .ok (.getfield 63, 3) := by decide +kernel
theorem dX1_take_35 : decode cX1_take 35 = .ok (.invokestatic 67, 3) := by decide +kernel
theorem dX1_take_38 : decode cX1_take 38 = .ok (.aload_n 0, 1) := by decide +kernel
theorem dX1_take_39 : decode cX1_take 39 = .ok (.aload_n 0, 1) := by decide +kernel
theorem dX1_take_40 : decode cX1_take 40 = .ok (.getfield 40, 3) := by decide +kernel
theorem dX1_take_43 : decode cX1_take 43 = .ok (.getfield 63, 3) := by decide +kernel
theorem dX1_take_46 : decode cX1_take 46 = .ok (.putfield 57, 3) := by decide +kernel
theorem dX1_take_49 : decode cX1_take 49 = .ok (.aload_n 0, 1) := by decide +kernel
theorem dX1_take_50 : decode cX1_take 50 = .ok (.getfield 57, 3) := by decide +kernel
theorem dX1_take_53 : decode cX1_take 53 = .ok (.ireturn, 1) := by decide +kernel
theorem mw_X1_take : MW yX1_take (Cond.code yX1_take cX1_take 1 (Option.some Jvm.ClassFile.FieldType.int)) cX1_take 1 (Option.some Jvm.ClassFile.FieldType.int) 0 := ⟨rfl, ⟨(lw_all_tbl q478), rfl, (lw_all_tbl q163)⟩, rfl, ⟨by decide, by decide⟩, by decide +kernel⟩
noncomputable def c_X1_take (l0 : Int) : Mo CH Int :=
  bnd (gf [101] 8 l0) fun v1 =>
  bnd (gf [102] 1 v1) fun v2 =>
  if v2 ≤ 3000 then
    bnd (gf [101] 8 l0) fun v3 =>
    bnd (gf [102] 0 v3) fun v4 =>
    bnd (gf [101] 0 l0) fun v5 =>
    bnd (gf [101] 8 l0) fun v6 =>
    bnd (gf [102] 1 v6) fun v7 =>
    bnd (acp 2 v4 0 v5 0 v7) fun _ =>
    bnd (gf [101] 8 l0) fun v8 =>
    bnd (gf [102] 1 v8) fun v9 =>
    bnd (pf [101] 1 l0 v9) fun _ =>
    bnd (gf [101] 1 l0) fun v10 =>
    pr v10
  else
    pr (-1)
theorem sc_X1_take (g : gC) (d : Nat) (ts : TS) (l0 : Int) : SF g yX1_take (Cond.code yX1_take cX1_take 1 (Option.some Jvm.ClassFile.FieldType.int)) (Option.some Jvm.ClassFile.FieldType.int) (d + 1) [vA g l0] (fun h => (h, ts)) (c_X1_take l0) := by
  refine SF.of (lv := [(0, vA g l0)]) (by decide) (wt_A wt_0) rfl (by simp only [la_A, la_I, la_J, la_0]) (fun Γ hg hnm o => ?_)
  subst hg
  have o : Ok Γ "LazyForge" cX1_take 1 (Option.some Jvm.ClassFile.FieldType.int) (d + 1) := o
  unfold c_X1_take
  refine s_aload_n o dX1_take_0 rfl 0 rfl ?_
  refine r_getf (vA (mg Γ)) rfl o cf_X1_out (Or.inl (lw_all_tbl q449)) dX1_take_1 (fun v1 hv1 => ?_)
  refine r_getf vI rfl o cf_X2_size (Or.inr (Or.inl ⟨_, q227⟩)) dX1_take_4 (fun v2 hv2 => ?_)
  refine s_sipush o dX1_take_7 rfl ?_
  refine s_icmp_le (tgt := 15) o dX1_take_10 (by decide) hv2 (r32 rfl) ?_ ?_
  · refine s_aload_n o dX1_take_15 rfl 0 rfl ?_
    refine r_getf (vA (mg Γ)) rfl o cf_X1_out (Or.inl (lw_all_tbl q449)) dX1_take_16 (fun v3 hv3 => ?_)
    refine r_getf (vA (mg Γ)) rfl o cf_X2_signs (Or.inr (Or.inl ⟨_, q225⟩)) dX1_take_19 (fun v4 hv4 => ?_)
    refine s_iconst o dX1_take_22 ?_
    refine s_aload_n o dX1_take_23 rfl 0 rfl ?_
    refine r_getf (vA (mg Γ)) rfl o cf_X1_text (Or.inl (lw_all_tbl q440)) dX1_take_24 (fun v5 hv5 => ?_)
    refine s_iconst o dX1_take_27 ?_
    refine s_aload_n o dX1_take_28 rfl 0 rfl ?_
    refine r_getf (vA (mg Γ)) rfl o cf_X1_out (Or.inl (lw_all_tbl q449)) dX1_take_29 (fun v6 hv6 => ?_)
    refine r_getf vI rfl o cf_X2_size (Or.inr (Or.inl ⟨_, q227⟩)) dX1_take_32 (fun v7 hv7 => ?_)
    refine s_acp (kd := 2) (d := d + 0) o (by decide) (fun q => absurd q (by decide)) (lw_all_tbl q479) (r32 rfl) (r32 rfl) hv7 wt_0 rfl dX1_take_35 (lw_all_tbl q481) (lw_all_tbl q480) (lw_all_tbl q179) ?_
    refine s_aload_n o dX1_take_38 rfl 0 rfl ?_
    refine s_aload_n o dX1_take_39 rfl 0 rfl ?_
    refine r_getf (vA (mg Γ)) rfl o cf_X1_out (Or.inl (lw_all_tbl q449)) dX1_take_40 (fun v8 hv8 => ?_)
    refine r_getf vI rfl o cf_X2_size (Or.inr (Or.inl ⟨_, q227⟩)) dX1_take_43 (fun v9 hv9 => ?_)
    refine r_putf vI rfl o cf_X1_size (Or.inl (lw_all_tbl q441)) dX1_take_46 (Or.inl rfl) hv9 ty_int ?_
    refine s_aload_n o dX1_take_49 rfl 0 rfl ?_
    refine r_getf vI rfl o cf_X1_size (Or.inl (lw_all_tbl q441)) dX1_take_50 (fun v10 hv10 => ?_)
    exact s_iret o rfl i_int hv10 dX1_take_53 (fun _ hh => hh)
  · refine s_iconst o dX1_take_13 ?_
    exact s_iret o rfl i_int (r32 rfl) dX1_take_14 (fun _ hh => hh)
theorem dX1_init_0 : decode cX1_init 0 = .ok (.aload_n 0, 1) := by decide +kernel
theorem dX1_init_1 : decode cX1_init 1 = .ok (.invokespecial 23, 3) := by decide +kernel
theorem dX1_init_4 : decode cX1_init 4 = .ok (.aload_n 0, 1) := by decide +kernel
theorem dX1_init_5 : decode cX1_init 5 = .ok (.sipush 3000, 3) := by decide +kernel
theorem dX1_init_8 : decode cX1_init 8 = .ok (.newarray .char, 2) := by decide +kernel
theorem dX1_init_10 : decode cX1_init 10 = .ok (.putfield 29, 3) := by decide +kernel
theorem dX1_init_13 : decode cX1_init 13 = .ok (.aload_n 0, 1) := by decide +kernel
theorem dX1_init_14 : decode cX1_init 14 = .ok (.iconst (-1), 1) := by decide +kernel
theorem dX1_init_15 : decode cX1_init 15 = .ok (.putfield 33, 3) := by decide +kernel
theorem dX1_init_18 : decode cX1_init 18 = .ok (.aload_n 0, 1) := by decide +kernel
theorem dX1_init_19 : decode cX1_init 19 = .ok (.new 37, 3) := by decide +kernel
theorem dX1_init_22 : decode cX1_init 22 = .ok (.dup, 1) := by decide +kernel
theorem dX1_init_23 : decode cX1_init 23 = .ok (.invokespecial 39, 3) := by decide +kernel
theorem dX1_init_26 : decode cX1_init 26 = .ok (.putfield 40, 3) := by decide +kernel
theorem dX1_init_29 : decode cX1_init 29 = .ok (.aload_n 0, 1) := by decide +kernel
theorem dX1_init_30 : decode cX1_init 30 = .ok (.new 37, 3) := by decide +kernel
theorem dX1_init_33 : decode cX1_init 33 = .ok (.dup, 1) := by decide +kernel
theorem dX1_init_34 : decode cX1_init 34 = .ok (.invokespecial 39, 3) := by decide +kernel
theorem dX1_init_37 : decode cX1_init 37 = .ok (.putfield 44, 3) := by decide +kernel
theorem dX1_init_40 : decode cX1_init 40 = .ok (.aload_n 0, 1) := by decide +kernel
theorem dX1_init_41 : decode cX1_init 41 = .ok (.new 47, 3) := by decide +kernel
theorem dX1_init_44 : decode cX1_init 44 = .ok (.dup, 1) := by decide +kernel
theorem dX1_init_45 : decode cX1_init 45 = .ok (.invokespecial 49, 3) := by decide +kernel
theorem dX1_init_48 : decode cX1_init 48 = .ok (.putfield 50, 3) := by decide +kernel
theorem dX1_init_51 : decode cX1_init 51 = .ok (.return_, 1) := by decide +kernel
theorem mw_X1_init : MW yX1_init (Cond.code yX1_init cX1_init 1 (Option.none : Option Jvm.ClassFile.FieldType)) cX1_init 1 (Option.none : Option Jvm.ClassFile.FieldType) 0 := ⟨rfl, ⟨(lw_all_tbl q214), rfl, (lw_all_tbl q163)⟩, rfl, ⟨by decide, by decide⟩, by decide +kernel⟩
noncomputable def c_X1_init (l0 : Int) : Mo CH Int :=
  bnd (newa 2 3000) fun v1 =>
  bnd (pf [101] 0 l0 v1) fun _ =>
  bnd (pf [101] 3 l0 (-1)) fun _ =>
  bnd (newo 2) fun v2 =>
  bnd (c_X2_init v2) fun _ =>
  bnd (pf [101] 8 l0 v2) fun _ =>
  bnd (newo 2) fun v3 =>
  bnd (c_X2_init v3) fun _ =>
  bnd (pf [101] 9 l0 v3) fun _ =>
  bnd (newo 3) fun v4 =>
  bnd (c_X3_init v4) fun _ =>
  bnd (pf [101] 10 l0 v4) fun _ =>
  pr 0
theorem sc_X1_init (g : gC) (d : Nat) (ts : TS) (l0 : Int) (hl0 : 0 < l0) : SF g yX1_init (Cond.code yX1_init cX1_init 1 (Option.none : Option Jvm.ClassFile.FieldType)) (Option.none : Option Jvm.ClassFile.FieldType) (d + 5) [vA g l0] (fun h => (h, ts)) (c_X1_init l0) := by
  refine SF.of (lv := [(0, vA g l0)]) (by decide) (wt_A wt_0) rfl (by simp only [la_A, la_I, la_J, la_0]) (fun Γ hg hnm o => ?_)
  subst hg
  have o : Ok Γ "LazyForge" cX1_init 1 (Option.none : Option Jvm.ClassFile.FieldType) (d + 5) := o
  have hnm : (xMe (mx Γ)).name = "<init>" := hnm
  unfold c_X1_init
  refine s_aload_n o dX1_init_0 rfl 0 rfl ?_
  refine s_obj (d := d + 4) o (lw_all_tbl q215) hl0 wt_0 rfl dX1_init_1 (lw_all_tbl q216) (lw_all_tbl q217) ?_
  refine s_aload_n o dX1_init_4 rfl 0 rfl ?_
  refine s_sipush o dX1_init_5 rfl ?_
  refine s_newa (kd := 2) o (by decide) rfl (by decide) (o.ra (by decide)) (lw_all_tbl q236) (r32 rfl) dX1_init_8 (fun v1 hv1 => ?_)
  refine r_putf (vA (mg Γ)) rfl o cf_X1_text (Or.inl (lw_all_tbl q440)) dX1_init_10 (Or.inl rfl) trivial (ty_array _) ?_
  refine s_aload_n o dX1_init_13 rfl 0 rfl ?_
  refine s_iconst o dX1_init_14 ?_
  refine r_putf vI rfl o cf_X1_faultPlace (Or.inl (lw_all_tbl q443)) dX1_init_15 (Or.inl rfl) (r32 rfl) ty_int ?_
  refine s_aload_n o dX1_init_18 rfl 0 rfl ?_
  refine s_new o mk_2 (lw_all_tbl q218) dX1_init_19 (fun v2 hv2 => ?_)
  refine s_dup o dX1_init_22 (vA_cat (mg Γ) v2) ?_
  refine s_ci (d := d + 4) (As := []) (st := [vA (mg Γ) v2, vA (mg Γ) l0]) o (sc_X2_init (mg Γ) (d + 3) ts v2 hv2) mw_X2_init rfl (Or.inr ⟨_, q220⟩) (lw_all_tbl q221) rfl hv2 (wt_A (wt_A wt_0)) rfl dX1_init_23 rfl (fun _ => ?_)
  refine r_putf (vA (mg Γ)) rfl o cf_X1_out (Or.inl (lw_all_tbl q449)) dX1_init_26 (Or.inl rfl) trivial (ty_object _) ?_
  refine s_aload_n o dX1_init_29 rfl 0 rfl ?_
  refine s_new o mk_2 (lw_all_tbl q218) dX1_init_30 (fun v3 hv3 => ?_)
  refine s_dup o dX1_init_33 (vA_cat (mg Γ) v3) ?_
  refine s_ci (d := d + 4) (As := []) (st := [vA (mg Γ) v3, vA (mg Γ) l0]) o (sc_X2_init (mg Γ) (d + 3) ts v3 hv3) mw_X2_init rfl (Or.inr ⟨_, q220⟩) (lw_all_tbl q221) rfl hv3 (wt_A (wt_A wt_0)) rfl dX1_init_34 rfl (fun _ => ?_)
  refine r_putf (vA (mg Γ)) rfl o cf_X1_draft (Or.inl (lw_all_tbl q450)) dX1_init_37 (Or.inl rfl) trivial (ty_object _) ?_
  refine s_aload_n o dX1_init_40 rfl 0 rfl ?_
  refine s_new o mk_3 (lw_all_tbl q237) dX1_init_41 (fun v4 hv4 => ?_)
  refine s_dup o dX1_init_44 (vA_cat (mg Γ) v4) ?_
  refine s_ci (d := d + 4) (As := []) (st := [vA (mg Γ) v4, vA (mg Γ) l0]) o (sc_X3_init (mg Γ) d ts v4 hv4) mw_X3_init rfl (Or.inr ⟨_, q239⟩) (lw_all_tbl q240) rfl hv4 (wt_A (wt_A wt_0)) rfl dX1_init_45 rfl (fun _ => ?_)
  refine r_putf (vA (mg Γ)) rfl o cf_X1_machine (Or.inl (lw_all_tbl q451)) dX1_init_48 (Or.inr ⟨hnm, rfl, (lw_all_tbl q451)⟩) trivial (ty_object _) ?_
  exact s_vret o rfl dX1_init_51 (fun _ hh => hh)
