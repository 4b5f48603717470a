/-! PRINTED: the component, 50 to 96 -/
set_option maxRecDepth 100000
theorem dX25_bound_0 : decode cX25_bound 0 = .ok (.aload_n 0, 1) := by decide +kernel
theorem dX25_bound_1 : decode cX25_bound 1 = .ok (.getfield 15, 3) := by decide +kernel
theorem dX25_bound_4 : decode cX25_bound 4 = .ok (.astore_n 2, 1) := by decide +kernel
theorem dX25_bound_5 : decode cX25_bound 5 = .ok (.aload_n 2, 1) := by decide +kernel
theorem dX25_bound_6 : decode cX25_bound 6 = .ok (.arraylength, 1) := by decide +kernel
theorem dX25_bound_7 : decode cX25_bound 7 = .ok (.istore_n 3, 1) := by decide +kernel
theorem dX25_bound_8 : decode cX25_bound 8 = .ok (.iconst 0, 1) := by decide +kernel
theorem dX25_bound_9 : decode cX25_bound 9 = .ok (.istore 4, 2) := by decide +kernel
theorem dX25_bound_11 : decode cX25_bound 11 = .ok (.iload 4, 2) := by decide +kernel
theorem dX25_bound_13 : decode cX25_bound 13 = .ok (.iload_n 3, 1) := by decide +kernel
theorem dX25_bound_14 : decode cX25_bound 14 = .ok (.if_icmp .ge 21, 3) := by decide +kernel
theorem dX25_bound_17 : decode cX25_bound 17 = .ok (.aload_n 2, 1) := by decide +kernel
theorem dX25_bound_18 : decode cX25_bound 18 = .ok (.iload 4, 2) := by decide +kernel
theorem dX25_bound_20 : decode cX25_bound 20 = .ok (.aaload, 1) := by decide +kernel
theorem dX25_bound_21 : decode cX25_bound 21 = .ok (.astore 5, 2) := by decide +kernel
theorem dX25_bound_23 : decode cX25_bound 23 = .ok (.aload 5, 2) := by decide +kernel
theorem dX25_bound_25 : decode cX25_bound 25 = .ok (.aload_n 1, 1) := by decide +kernel
theorem dX25_bound_26 : decode cX25_bound 26 = .ok (.invokevirtual 30, 3) := by decide +kernel
theorem dX25_bound_29 : decode cX25_bound 29 = .ok (.iinc 4 1, 3) := by decide +kernel
theorem dX25_bound_32 : decode cX25_bound 32 = .ok (.goto (-21), 3) := by decide +kernel
theorem dX25_bound_35 : decode cX25_bound 35 = .ok (.return_, 1) := by decide +kernel
theorem mw_X25_bound : MW yX25_bound (Cond.code yX25_bound cX25_bound 6 (Option.none : Option Jvm.ClassFile.FieldType)) cX25_bound 6 (Option.none : Option Jvm.ClassFile.FieldType) 1 := ⟨rfl, ⟨(lw_all_tbl q1821), rfl, (lw_all_tbl q205)⟩, rfl, ⟨by decide, by decide⟩, by decide +kernel⟩
theorem dX23_bound_0 : decode cX23_bound 0 = .ok (.aload_n 0, 1) := by decide +kernel
theorem dX23_bound_1 : decode cX23_bound 1 = .ok (.getfield 13, 3) := by decide +kernel
theorem dX23_bound_4 : decode cX23_bound 4 = .ok (.aload_n 1, 1) := by decide +kernel
theorem dX23_bound_5 : decode cX23_bound 5 = .ok (.invokevirtual 35, 3) := by decide +kernel
theorem dX23_bound_8 : decode cX23_bound 8 = .ok (.aload_n 0, 1) := by decide +kernel
theorem dX23_bound_9 : decode cX23_bound 9 = .ok (.getfield 17, 3) := by decide +kernel
theorem dX23_bound_12 : decode cX23_bound 12 = .ok (.aload_n 1, 1) := by decide +kernel
theorem dX23_bound_13 : decode cX23_bound 13 = .ok (.invokevirtual 35, 3) := by decide +kernel
theorem dX23_bound_16 : decode cX23_bound 16 = .ok (.return_, 1) := by decide +kernel
theorem mw_X23_bound : MW yX23_bound (Cond.code yX23_bound cX23_bound 2 (Option.none : Option Jvm.ClassFile.FieldType)) cX23_bound 2 (Option.none : Option Jvm.ClassFile.FieldType) 1 := ⟨rfl, ⟨(lw_all_tbl q1824), rfl, (lw_all_tbl q203)⟩, rfl, ⟨by decide, by decide⟩, by decide +kernel⟩
theorem dX22_bound_0 : decode cX22_bound 0 = .ok (.aload_n 0, 1) := by decide +kernel
theorem dX22_bound_1 : decode cX22_bound 1 = .ok (.getfield 9, 3) := by decide +kernel
theorem dX22_bound_4 : decode cX22_bound 4 = .ok (.aload_n 1, 1) := by decide +kernel
theorem dX22_bound_5 : decode cX22_bound 5 = .ok (.invokevirtual 51, 3) := by decide +kernel
theorem dX22_bound_8 : decode cX22_bound 8 = .ok (.iconst 0, 1) := by decide +kernel
theorem dX22_bound_9 : decode cX22_bound 9 = .ok (.istore_n 2, 1) := by decide +kernel
theorem dX22_bound_10 : decode cX22_bound 10 = .ok (.iload_n 2, 1) := by decide +kernel
theorem dX22_bound_11 : decode cX22_bound 11 = .ok (.aload_n 0, 1) := by decide +kernel
theorem dX22_bound_12 : decode cX22_bound 12 = .ok (.getfield 26, 3) := by decide +kernel
theorem dX22_bound_15 : decode cX22_bound 15 = .ok (.arraylength, 1) := by decide +kernel
theorem dX22_bound_16 : decode cX22_bound 16 = .ok (.if_icmp .ge 60, 3) := by decide +kernel
theorem dX22_bound_19 : decode cX22_bound 19 = .ok (.aload_n 0, 1) := by decide +kernel
theorem dX22_bound_20 : decode cX22_bound 20 = .ok (.getfield 26, 3) := by decide +kernel
theorem dX22_bound_23 : decode cX22_bound 23 = .ok (.iload_n 2, 1) := by decide +kernel
theorem dX22_bound_24 : decode cX22_bound 24 = .ok (.aaload, 1) := by decide +kernel
theorem dX22_bound_25 : decode cX22_bound 25 = .ok (.aload_n 1, 1) := by decide +kernel
theorem dX22_bound_26 : decode cX22_bound 26 = .ok (.invokevirtual 51, 3) := by decide +kernel
theorem dX22_bound_29 : decode cX22_bound 29 = .ok (.aload_n 0, 1) := by decide +kernel
theorem dX22_bound_30 : decode cX22_bound 30 = .ok (.getfield 22, 3) := by decide +kernel
theorem dX22_bound_33 : decode cX22_bound 33 = .ok (.iload_n 2, 1) := by decide +kernel
theorem dX22_bound_34 : decode cX22_bound 34 = .ok (.aaload, 1) := by decide +kernel
theorem dX22_bound_35 : decode cX22_bound 35 = .ok (.astore_n 3, 1) := by decide +kernel
theorem dX22_bound_36 : decode cX22_bound 36 = .ok (.aload_n 3, 1) := by decide +kernel
theorem dX22_bound_37 : decode cX22_bound 37 = .ok (.arraylength, 1) := by decide +kernel
theorem dX22_bound_38 : decode cX22_bound 38 = .ok (.istore 4, 2) := by decide +kernel
theorem dX22_bound_40 : decode cX22_bound 40 = .ok (.iconst 0, 1) := by decide +kernel
theorem dX22_bound_41 : decode cX22_bound 41 = .ok (.istore 5, 2) := by decide +kernel
theorem dX22_bound_43 : decode cX22_bound 43 = .ok (.iload 5, 2) := by decide +kernel
theorem dX22_bound_45 : decode cX22_bound 45 = .ok (.iload 4, 2) := by decide +kernel
theorem dX22_bound_47 : decode cX22_bound 47 = .ok (.if_icmp .ge 23, 3) := by decide +kernel
theorem dX22_bound_50 : decode cX22_bound 50 = .ok (.aload_n 3, 1) := by decide +kernel
theorem dX22_bound_51 : decode cX22_bound 51 = .ok (.iload 5, 2) := by decide +kernel
theorem dX22_bound_53 : decode cX22_bound 53 = .ok (.aaload, 1) := by decide +kernel
theorem dX22_bound_54 : decode cX22_bound 54 = .ok (.astore 6, 2) := by decide +kernel
theorem dX22_bound_56 : decode cX22_bound 56 = .ok (.aload_n 1, 1) := by decide +kernel
theorem dX22_bound_57 : decode cX22_bound 57 = .ok (.aload 6, 2) := by decide +kernel
theorem dX22_bound_59 : decode cX22_bound 59 = .ok (.getfield 42, 3) := by decide +kernel
theorem dX22_bound_62 : decode cX22_bound 62 = .ok (.iconst 0, 1) := by decide +kernel
theorem dX22_bound_63 : decode cX22_bound 63 = .ok (.bastore, 1) := by decide +kernel
theorem dX22_bound_64 : decode cX22_bound 64 = .ok (.iinc 5 1, 3) := by decide +kernel
theorem dX22_bound_67 : decode cX22_bound 67 = .ok (.goto (-24), 3) := by decide +kernel
theorem dX22_bound_70 : decode cX22_bound 70 = .ok (.iinc 2 1, 3) := by decide +kernel
theorem dX22_bound_73 : decode cX22_bound 73 = .ok (.goto (-63), 3) := by decide +kernel
theorem dX22_bound_76 : decode cX22_bound 76 = .ok (.return_, 1) := by decide +kernel
theorem mw_X22_bound : MW yX22_bound (Cond.code yX22_bound cX22_bound 7 (Option.none : Option Jvm.ClassFile.FieldType)) cX22_bound 7 (Option.none : Option Jvm.ClassFile.FieldType) 1 := ⟨rfl, ⟨(lw_all_tbl q1815), rfl, (lw_all_tbl q202)⟩, rfl, ⟨by decide, by decide⟩, by decide +kernel⟩
theorem dX21_bound_0 : decode cX21_bound 0 = .ok (.aload_n 0, 1) := by decide +kernel
theorem dX21_bound_1 : decode cX21_bound 1 = .ok (.getfield 9, 3) := by decide +kernel
theorem dX21_bound_4 : decode cX21_bound 4 = .ok (.aload_n 1, 1) := by decide +kernel
theorem dX21_bound_5 : decode cX21_bound 5 = .ok (.invokevirtual 57, 3) := by decide +kernel
theorem dX21_bound_8 : decode cX21_bound 8 = .ok (.aload_n 0, 1) := by decide +kernel
theorem dX21_bound_9 : decode cX21_bound 9 = .ok (.getfield 15, 3) := by decide +kernel
theorem dX21_bound_12 : decode cX21_bound 12 = .ok (.astore_n 2, 1) := by decide +kernel
theorem dX21_bound_13 : decode cX21_bound 13 = .ok (.aload_n 2, 1) := by decide +kernel
theorem dX21_bound_14 : decode cX21_bound 14 = .ok (.arraylength, 1) := by decide +kernel
theorem dX21_bound_15 : decode cX21_bound 15 = .ok (.istore_n 3, 1) := by decide +kernel
theorem dX21_bound_16 : decode cX21_bound 16 = .ok (.iconst 0, 1) := by decide +kernel
theorem dX21_bound_17 : decode cX21_bound 17 = .ok (.istore 4, 2) := by decide +kernel
theorem dX21_bound_19 : decode cX21_bound 19 = .ok (.iload 4, 2) := by decide +kernel
theorem dX21_bound_21 : decode cX21_bound 21 = .ok (.iload_n 3, 1) := by decide +kernel
theorem dX21_bound_22 : decode cX21_bound 22 = .ok (.if_icmp .ge 21, 3) := by decide +kernel
theorem dX21_bound_25 : decode cX21_bound 25 = .ok (.aload_n 2, 1) := by decide +kernel
theorem dX21_bound_26 : decode cX21_bound 26 = .ok (.iload 4, 2) := by decide +kernel
theorem dX21_bound_28 : decode cX21_bound 28 = .ok (.aaload, 1) := by decide +kernel
theorem dX21_bound_29 : decode cX21_bound 29 = .ok (.astore 5, 2) := by decide +kernel
theorem dX21_bound_31 : decode cX21_bound 31 = .ok (.aload 5, 2) := by decide +kernel
theorem dX21_bound_33 : decode cX21_bound 33 = .ok (.aload_n 1, 1) := by decide +kernel
theorem dX21_bound_34 : decode cX21_bound 34 = .ok (.invokevirtual 57, 3) := by decide +kernel
theorem dX21_bound_37 : decode cX21_bound 37 = .ok (.iinc 4 1, 3) := by decide +kernel
theorem dX21_bound_40 : decode cX21_bound 40 = .ok (.goto (-21), 3) := by decide +kernel
theorem dX21_bound_43 : decode cX21_bound 43 = .ok (.return_, 1) := by decide +kernel
theorem mw_X21_bound : MW yX21_bound (Cond.code yX21_bound cX21_bound 6 (Option.none : Option Jvm.ClassFile.FieldType)) cX21_bound 6 (Option.none : Option Jvm.ClassFile.FieldType) 1 := ⟨rfl, ⟨(lw_all_tbl q1812), rfl, (lw_all_tbl q201)⟩, rfl, ⟨by decide, by decide⟩, by decide +kernel⟩
theorem dX18_bound_0 : decode cX18_bound 0 = .ok (.aload_n 0, 1) := by decide +kernel
theorem dX18_bound_1 : decode cX18_bound 1 = .ok (.getfield 13, 3) := by decide +kernel
theorem dX18_bound_4 : decode cX18_bound 4 = .ok (.astore_n 2, 1) := by decide +kernel
theorem dX18_bound_5 : decode cX18_bound 5 = .ok (.aload_n 2, 1) := by decide +kernel
theorem dX18_bound_6 : decode cX18_bound 6 = .ok (.arraylength, 1) := by decide +kernel
theorem dX18_bound_7 : decode cX18_bound 7 = .ok (.istore_n 3, 1) := by decide +kernel
theorem dX18_bound_8 : decode cX18_bound 8 = .ok (.iconst 0, 1) := by decide +kernel
theorem dX18_bound_9 : decode cX18_bound 9 = .ok (.istore 4, 2) := by decide +kernel
theorem dX18_bound_11 : decode cX18_bound 11 = .ok (.iload 4, 2) := by decide +kernel
theorem dX18_bound_13 : decode cX18_bound 13 = .ok (.iload_n 3, 1) := by decide +kernel
theorem dX18_bound_14 : decode cX18_bound 14 = .ok (.if_icmp .ge 21, 3) := by decide +kernel
theorem dX18_bound_17 : decode cX18_bound 17 = .ok (.aload_n 2, 1) := by decide +kernel
theorem dX18_bound_18 : decode cX18_bound 18 = .ok (.iload 4, 2) := by decide +kernel
theorem dX18_bound_20 : decode cX18_bound 20 = .ok (.aaload, 1) := by decide +kernel
theorem dX18_bound_21 : decode cX18_bound 21 = .ok (.astore 5, 2) := by decide +kernel
theorem dX18_bound_23 : decode cX18_bound 23 = .ok (.aload 5, 2) := by decide +kernel
theorem dX18_bound_25 : decode cX18_bound 25 = .ok (.aload_n 1, 1) := by decide +kernel
theorem dX18_bound_26 : decode cX18_bound 26 = .ok (.invokevirtual 42, 3) := by decide +kernel
theorem dX18_bound_29 : decode cX18_bound 29 = .ok (.iinc 4 1, 3) := by decide +kernel
theorem dX18_bound_32 : decode cX18_bound 32 = .ok (.goto (-21), 3) := by decide +kernel
theorem dX18_bound_35 : decode cX18_bound 35 = .ok (.aload_n 0, 1) := by decide +kernel
theorem dX18_bound_36 : decode cX18_bound 36 = .ok (.getfield 17, 3) := by decide +kernel
theorem dX18_bound_39 : decode cX18_bound 39 = .ok (.aload_n 1, 1) := by decide +kernel
theorem dX18_bound_40 : decode cX18_bound 40 = .ok (.invokevirtual 42, 3) := by decide +kernel
theorem dX18_bound_43 : decode cX18_bound 43 = .ok (.aload_n 0, 1) := by decide +kernel
theorem dX18_bound_44 : decode cX18_bound 44 = .ok (.getfield 7, 3) := by decide +kernel
theorem dX18_bound_47 : decode cX18_bound 47 = .ok (.astore_n 2, 1) := by decide +kernel
theorem dX18_bound_48 : decode cX18_bound 48 = .ok (.aload_n 2, 1) := by decide +kernel
theorem dX18_bound_49 : decode cX18_bound 49 = .ok (.arraylength, 1) := by decide +kernel
theorem dX18_bound_50 : decode cX18_bound 50 = .ok (.istore_n 3, 1) := by decide +kernel
theorem dX18_bound_51 : decode cX18_bound 51 = .ok (.iconst 0, 1) := by decide +kernel
theorem dX18_bound_52 : decode cX18_bound 52 = .ok (.istore 4, 2) := by decide +kernel
theorem dX18_bound_54 : decode cX18_bound 54 = .ok (.iload 4, 2) := by decide +kernel
theorem dX18_bound_56 : decode cX18_bound 56 = .ok (.iload_n 3, 1) := by decide +kernel
theorem dX18_bound_57 : decode cX18_bound 57 = .ok (.if_icmp .ge 23, 3) := by decide +kernel
theorem dX18_bound_60 : decode cX18_bound 60 = .ok (.aload_n 2, 1) := by decide +kernel
theorem dX18_bound_61 : decode cX18_bound 61 = .ok (.iload 4, 2) := by decide +kernel
theorem dX18_bound_63 : decode cX18_bound 63 = .ok (.aaload, 1) := by decide +kernel
theorem dX18_bound_64 : decode cX18_bound 64 = .ok (.astore 5, 2) := by decide +kernel
theorem dX18_bound_66 : decode cX18_bound 66 = .ok (.aload_n 1, 1) := by decide +kernel
theorem dX18_bound_67 : decode cX18_bound 67 = .ok (.aload 5, 2) := by decide +kernel
theorem dX18_bound_69 : decode cX18_bound 69 = .ok (.getfield 25, 3) := by decide +kernel
theorem dX18_bound_72 : decode cX18_bound 72 = .ok (.iconst 0, 1) := by decide +kernel
theorem dX18_bound_73 : decode cX18_bound 73 = .ok (.bastore, 1) := by decide +kernel
theorem dX18_bound_74 : decode cX18_bound 74 = .ok (.iinc 4 1, 3) := by decide +kernel
theorem dX18_bound_77 : decode cX18_bound 77 = .ok (.goto (-23), 3) := by decide +kernel
theorem dX18_bound_80 : decode cX18_bound 80 = .ok (.return_, 1) := by decide +kernel
theorem mw_X18_bound : MW yX18_bound (Cond.code yX18_bound cX18_bound 6 (Option.none : Option Jvm.ClassFile.FieldType)) cX18_bound 6 (Option.none : Option Jvm.ClassFile.FieldType) 1 := ⟨rfl, ⟨(lw_all_tbl q1818), rfl, (lw_all_tbl q198)⟩, rfl, ⟨by decide, by decide⟩, by decide +kernel⟩
def GR_bound (g : gC) (ts : TS) (d : Nat) (rc : Rc) : Prop := (∀ (l0 : Int) (l1 : Int), VR g ts ⟨"LazyForge$Part", "bound", "([Z)V"⟩ none 1 d l0 [vA g l1] (rc 0 l0 l1 0 0 0))
theorem gr_bound_0 {g : gC} {ts : TS} {d : Nat} {rc : Rc} (h : GR_bound g ts d rc) : (∀ (l0 : Int) (l1 : Int), VR g ts ⟨"LazyForge$Part", "bound", "([Z)V"⟩ none 1 d l0 [vA g l1] (rc 0 l0 l1 0 0 0)) := h
abbrev okb_X25_bound_11 (x : Int × Int × Int × Int) : Prop := R32 x.2.2.1 ∧ R32 x.2.2.2
abbrev lvb_X25_bound_11 (Γ : Gm) (x : Int × Int × Int × Int) : List (Nat × Value) := [(1, vA (mg Γ) x.1), (2, vA (mg Γ) x.2.1), (3, vI x.2.2.1), (4, vI x.2.2.2)]
noncomputable def b_X25_bound_11b (rc : Rc) {A : Type} (k_35 : Mo CH A) (l1 : Int) (l2 : Int) (l3 : Int) (l4 : Int) : Mo CH ((Int × Int × Int × Int) ⊕ A) :=
  if l3 ≤ l4 then
    lo k_35
  else
    bnd (ald 5 l2 l4) fun v1 =>
    bnd (rc 0 v1 l1 0 0 0) fun _ =>
    pr (.inl (l1, l2, l3, (w32 (l4 + 1))))
theorem sb_X25_bound_11b {Γ : Gm} {ts : TS} {d : Nat} {rc : Rc} (hr : GR_bound (mg Γ) ts (d + 0) rc) (o : Ok Γ "LazyForge$Made" cX25_bound 6 (Option.none : Option Jvm.ClassFile.FieldType) (d + 1)) {A : Type} {K : A → CH → Prop} (k_35 : Mo CH A) (hk_35 : Sx Γ (fun h => (h, ts)) K 35 [] [] (k_35)) (l1 : Int) (l2 : Int) (l3 : Int) (l4 : Int) (hl3 : R32 l3) (hl4 : R32 l4) : Sx Γ (fun h => (h, ts)) (KL Γ (fun h => (h, ts)) okb_X25_bound_11 K 11 (lvb_X25_bound_11 Γ) []) 11 [(1, vA (mg Γ) l1), (2, vA (mg Γ) l2), (3, vI l3), (4, vI l4)] [] (b_X25_bound_11b rc k_35 l1 l2 l3 l4) := by
  unfold b_X25_bound_11b
  refine s_iload o dX25_bound_11 3 rfl ?_
  refine s_iload_n o dX25_bound_13 rfl 2 rfl ?_
  refine s_icmp_ge (tgt := 35) o dX25_bound_14 (by decide) hl4 hl3 ?_ ?_
  · refine r_to [] [] rfl ?_
    exact s_lo hk_35
  · refine s_aload_n o dX25_bound_17 rfl 1 rfl ?_
    refine s_iload o dX25_bound_18 3 rfl ?_
    refine r_aald (kd := 5) o (by decide) rfl hl4 dX25_bound_20 (fun v1 => ?_)
    refine r_astore o dX25_bound_21 rfl ⟨(Nat.ne_of_beq_eq_false rfl), (fun _ => (vA_cat (mg Γ) l1)), ⟨(Nat.ne_of_beq_eq_false rfl), (fun _ => (vA_cat (mg Γ) l2)), ⟨(Nat.ne_of_beq_eq_false rfl), (fun _ => rfl), ⟨(Nat.ne_of_beq_eq_false rfl), (fun _ => rfl), trivial⟩⟩⟩⟩ ?_
    refine s_aload o dX25_bound_23 0 rfl ?_
    refine s_aload_n o dX25_bound_25 rfl 1 rfl ?_
    refine s_cu (d := d + 0) (As := [vA (mg Γ) l1]) (st := []) (owner := "LazyForge$Part") o (gr_bound_0 hr v1 l1) rfl (lw_all_tbl q1822) (lw_all_tbl q1808) (Or.inr ⟨_, _, _, (lw_all_tbl q1807), (lw_all_tbl q1838)⟩) ⟨by decide, by decide⟩ (by decide +kernel) wt_0 rfl dX25_bound_26 rfl (rs := fun _ => []) (fun _ => rfl) (fun _ _ => ?_)
    refine r_iinc (j := 4) o dX25_bound_29 rfl rfl [(5, vA (mg Γ) v1), (1, vA (mg Γ) l1), (2, vA (mg Γ) l2), (3, vI l3)] [0, 1, 2, 3] rfl ⟨(Nat.ne_of_beq_eq_false rfl), (fun _ => (vA_cat (mg Γ) v1)), ⟨(Nat.ne_of_beq_eq_false rfl), (fun _ => (vA_cat (mg Γ) l1)), ⟨(Nat.ne_of_beq_eq_false rfl), (fun _ => (vA_cat (mg Γ) l2)), ⟨(Nat.ne_of_beq_eq_false rfl), (fun _ => rfl), trivial⟩⟩⟩⟩ ?_
    refine s_goto (tgt := 11) o dX25_bound_32 (by decide) ?_
    refine r_to [(1, vA (mg Γ) l1), (2, vA (mg Γ) l2), (3, vI l3), (4, vI (w32 (l4 + 1)))] [2, 3, 4, 0] rfl ?_
    exact s_back (⟨hl3, (w32_R _)⟩) rfl
noncomputable def b_X25_bound_11 (rc : Rc) {A : Type} (k_35 : Mo CH A) (l1 : Int) (l2 : Int) (l3 : Int) (l4 : Int) : Mo CH A := Loop (fun x => b_X25_bound_11b rc k_35 x.1 x.2.1 x.2.2.1 x.2.2.2) (l1, l2, l3, l4)
theorem sb_X25_bound_11 {Γ : Gm} {ts : TS} {d : Nat} {rc : Rc} (hr : GR_bound (mg Γ) ts (d + 0) rc) (o : Ok Γ "LazyForge$Made" cX25_bound 6 (Option.none : Option Jvm.ClassFile.FieldType) (d + 1)) {A : Type} {K : A → CH → Prop} (k_35 : Mo CH A) (hk_35 : Sx Γ (fun h => (h, ts)) K 35 [] [] (k_35)) (l1 : Int) (l2 : Int) (l3 : Int) (l4 : Int) (hl3 : R32 l3) (hl4 : R32 l4) : Sx Γ (fun h => (h, ts)) K 11 [(1, vA (mg Γ) l1), (2, vA (mg Γ) l2), (3, vI l3), (4, vI l4)] [] (b_X25_bound_11 rc k_35 l1 l2 l3 l4) :=
  s_loop okb_X25_bound_11 (lvb_X25_bound_11 Γ) (fun x hx => sb_X25_bound_11b hr o k_35 hk_35 x.1 x.2.1 x.2.2.1 x.2.2.2 hx.1 hx.2) (x := (l1, l2, l3, l4)) ⟨hl3, hl4⟩
noncomputable def b_X25_bound (rc : Rc) (l0 : Int) (l1 : Int) : Mo CH Int :=
  bnd (gf [125] 6 l0) fun v1 =>
  bnd (aln v1) fun v2 =>
  b_X25_bound_11 rc
    (pr 0) l1 v1 v2 0
theorem sb_X25_bound (g : gC) (d : Nat) (ts : TS) (rc : Rc) (hr : GR_bound g ts (d + 0) rc) (l0 : Int) (l1 : Int) : SF g yX25_bound (Cond.code yX25_bound cX25_bound 6 (Option.none : Option Jvm.ClassFile.FieldType)) (Option.none : Option Jvm.ClassFile.FieldType) (d + 1) [vA g l0, vA g l1] (fun h => (h, ts)) (b_X25_bound rc l0 l1) := by
  refine SF.of (lv := [(0, vA g l0), (1, vA g l1)]) (by decide) (wt_A (wt_A wt_0)) rfl (by simp only [la_A, la_I, la_J, la_0]) (fun Γ hg hnm o => ?_)
  subst hg
  have o : Ok Γ "LazyForge$Made" cX25_bound 6 (Option.none : Option Jvm.ClassFile.FieldType) (d + 1) := o
  unfold b_X25_bound
  refine s_aload_n o dX25_bound_0 rfl 0 rfl ?_
  refine r_getf (vA (mg Γ)) rfl o cf_X25_fields (Or.inl (lw_all_tbl q1569)) dX25_bound_1 (fun v1 hv1 => ?_)
  refine r_astore_n o dX25_bound_4 rfl rfl ⟨(Nat.ne_of_beq_eq_false rfl), (fun _ => (vA_cat (mg Γ) l0)), ⟨(Nat.ne_of_beq_eq_false rfl), (fun _ => (vA_cat (mg Γ) l1)), trivial⟩⟩ ?_
  refine s_aload_n o dX25_bound_5 rfl 0 rfl ?_
  refine s_alen o dX25_bound_6 (fun v2 hv2 => ?_)
  refine r_istore_n o dX25_bound_7 rfl rfl ⟨(Nat.ne_of_beq_eq_false rfl), (fun _ => (vA_cat (mg Γ) v1)), ⟨(Nat.ne_of_beq_eq_false rfl), (fun _ => (vA_cat (mg Γ) l0)), ⟨(Nat.ne_of_beq_eq_false rfl), (fun _ => (vA_cat (mg Γ) l1)), trivial⟩⟩⟩ ?_
  refine s_iconst o dX25_bound_8 ?_
  refine r_istore o dX25_bound_9 rfl ⟨(Nat.ne_of_beq_eq_false rfl), (fun _ => rfl), ⟨(Nat.ne_of_beq_eq_false rfl), (fun _ => (vA_cat (mg Γ) v1)), ⟨(Nat.ne_of_beq_eq_false rfl), (fun _ => (vA_cat (mg Γ) l0)), ⟨(Nat.ne_of_beq_eq_false rfl), (fun _ => (vA_cat (mg Γ) l1)), trivial⟩⟩⟩⟩ ?_
  refine r_to [(1, vA (mg Γ) l1), (2, vA (mg Γ) v1), (3, vI v2), (4, vI 0)] [4, 2, 1, 0] rfl ?_
  refine sb_X25_bound_11 hr o _ ?_ l1 v1 v2 0 (rN hv2) (r32 rfl)
  · exact s_vret o rfl dX25_bound_35 (fun _ hh => hh)
noncomputable def b_X23_bound (rc : Rc) (l0 : Int) (l1 : Int) : Mo CH Int :=
  bnd (gf [123] 6 l0) fun v1 =>
  bnd (rc 0 v1 l1 0 0 0) fun _ =>
  bnd (gf [123] 7 l0) fun v2 =>
  bnd (rc 0 v2 l1 0 0 0) fun _ =>
  pr 0
theorem sb_X23_bound (g : gC) (d : Nat) (ts : TS) (rc : Rc) (hr : GR_bound g ts (d + 0) rc) (l0 : Int) (l1 : Int) : SF g yX23_bound (Cond.code yX23_bound cX23_bound 2 (Option.none : Option Jvm.ClassFile.FieldType)) (Option.none : Option Jvm.ClassFile.FieldType) (d + 1) [vA g l0, vA g l1] (fun h => (h, ts)) (b_X23_bound rc l0 l1) := by
  refine SF.of (lv := [(0, vA g l0), (1, vA g l1)]) (by decide) (wt_A (wt_A wt_0)) rfl (by simp only [la_A, la_I, la_J, la_0]) (fun Γ hg hnm o => ?_)
  subst hg
  have o : Ok Γ "LazyForge$Sign" cX23_bound 2 (Option.none : Option Jvm.ClassFile.FieldType) (d + 1) := o
  unfold b_X23_bound
  refine s_aload_n o dX23_bound_0 rfl 0 rfl ?_
  refine r_getf (vA (mg Γ)) rfl o cf_X23_one (Or.inl (lw_all_tbl q1526)) dX23_bound_1 (fun v1 hv1 => ?_)
  refine s_aload_n o dX23_bound_4 rfl 1 rfl ?_
  refine s_cu (d := d + 0) (As := [vA (mg Γ) l1]) (st := []) (owner := "LazyForge$Part") o (gr_bound_0 hr v1 l1) rfl (lw_all_tbl q1825) (lw_all_tbl q1808) (Or.inr ⟨_, _, _, (lw_all_tbl q1807), (lw_all_tbl q1838)⟩) ⟨by decide, by decide⟩ (by decide +kernel) wt_0 rfl dX23_bound_5 rfl (rs := fun _ => []) (fun _ => rfl) (fun _ _ => ?_)
  refine s_aload_n o dX23_bound_8 rfl 0 rfl ?_
  refine r_getf (vA (mg Γ)) rfl o cf_X23_two (Or.inl (lw_all_tbl q1527)) dX23_bound_9 (fun v2 hv2 => ?_)
  refine s_aload_n o dX23_bound_12 rfl 1 rfl ?_
  refine s_cu (d := d + 0) (As := [vA (mg Γ) l1]) (st := []) (owner := "LazyForge$Part") o (gr_bound_0 hr v2 l1) rfl (lw_all_tbl q1825) (lw_all_tbl q1808) (Or.inr ⟨_, _, _, (lw_all_tbl q1807), (lw_all_tbl q1838)⟩) ⟨by decide, by decide⟩ (by decide +kernel) wt_0 rfl dX23_bound_13 rfl (rs := fun _ => []) (fun _ => rfl) (fun _ _ => ?_)
  exact s_vret o rfl dX23_bound_16 (fun _ hh => hh)
abbrev okb_X22_bound_43 (x : Int × Int × Int × Int × Int × Int) : Prop := R32 x.2.2.1 ∧ R32 x.2.2.2.2.1 ∧ R32 x.2.2.2.2.2
abbrev lvb_X22_bound_43 (Γ : Gm) (x : Int × Int × Int × Int × Int × Int) : List (Nat × Value) := [(0, vA (mg Γ) x.1), (1, vA (mg Γ) x.2.1), (2, vI x.2.2.1), (3, vA (mg Γ) x.2.2.2.1), (4, vI x.2.2.2.2.1), (5, vI x.2.2.2.2.2)]
noncomputable def b_X22_bound_43b (rc : Rc) {A : Type} (k_70 : Int → Int → Int → Mo CH A) (l0 : Int) (l1 : Int) (l2 : Int) (l3 : Int) (l4 : Int) (l5 : Int) : Mo CH ((Int × Int × Int × Int × Int × Int) ⊕ A) :=
  if l4 ≤ l5 then
    lo (k_70 l0 l1 l2)
  else
    bnd (ald 7 l3 l5) fun v1 =>
    bnd (gf [117] 1 v1) fun v2 =>
    bnd (ast 3 l1 v2 0) fun _ =>
    pr (.inl (l0, l1, l2, l3, l4, (w32 (l5 + 1))))
theorem sb_X22_bound_43b {Γ : Gm} {ts : TS} {d : Nat} {rc : Rc} (hr : GR_bound (mg Γ) ts (d + 0) rc) (o : Ok Γ "LazyForge$Case" cX22_bound 7 (Option.none : Option Jvm.ClassFile.FieldType) (d + 1)) {A : Type} {K : A → CH → Prop} (k_70 : Int → Int → Int → Mo CH A) (hk_70 : ∀ (l0 : Int) (l1 : Int) (l2 : Int), R32 l2 → Sx Γ (fun h => (h, ts)) K 70 [(0, vA (mg Γ) l0), (1, vA (mg Γ) l1), (2, vI l2)] [] (k_70 l0 l1 l2)) (l0 : Int) (l1 : Int) (l2 : Int) (l3 : Int) (l4 : Int) (l5 : Int) (hl2 : R32 l2) (hl4 : R32 l4) (hl5 : R32 l5) : Sx Γ (fun h => (h, ts)) (KL Γ (fun h => (h, ts)) okb_X22_bound_43 K 43 (lvb_X22_bound_43 Γ) []) 43 [(0, vA (mg Γ) l0), (1, vA (mg Γ) l1), (2, vI l2), (3, vA (mg Γ) l3), (4, vI l4), (5, vI l5)] [] (b_X22_bound_43b rc k_70 l0 l1 l2 l3 l4 l5) := by
  unfold b_X22_bound_43b
  refine s_iload o dX22_bound_43 5 rfl ?_
  refine s_iload o dX22_bound_45 4 rfl ?_
  refine s_icmp_ge (tgt := 70) o dX22_bound_47 (by decide) hl5 hl4 ?_ ?_
  · refine r_to [(0, vA (mg Γ) l0), (1, vA (mg Γ) l1), (2, vI l2)] [0, 1, 2] rfl ?_
    exact s_lo (hk_70 l0 l1 l2 hl2)
  · refine s_aload_n o dX22_bound_50 rfl 3 rfl ?_
    refine s_iload o dX22_bound_51 5 rfl ?_
    refine r_aald (kd := 7) o (by decide) rfl hl5 dX22_bound_53 (fun v1 => ?_)
    refine r_astore o dX22_bound_54 rfl ⟨(Nat.ne_of_beq_eq_false rfl), (fun _ => (vA_cat (mg Γ) l0)), ⟨(Nat.ne_of_beq_eq_false rfl), (fun _ => (vA_cat (mg Γ) l1)), ⟨(Nat.ne_of_beq_eq_false rfl), (fun _ => rfl), ⟨(Nat.ne_of_beq_eq_false rfl), (fun _ => (vA_cat (mg Γ) l3)), ⟨(Nat.ne_of_beq_eq_false rfl), (fun _ => rfl), ⟨(Nat.ne_of_beq_eq_false rfl), (fun _ => rfl), trivial⟩⟩⟩⟩⟩⟩ ?_
    refine s_aload_n o dX22_bound_56 rfl 2 rfl ?_
    refine s_aload o dX22_bound_57 0 rfl ?_
    refine r_getf vI rfl o cf_X17_number (Or.inr (Or.inl ⟨_, q1291⟩)) dX22_bound_59 (fun v2 hv2 => ?_)
    refine s_iconst o dX22_bound_62 ?_
    refine r_zast o hv2 (Or.inl rfl) dX22_bound_63 ?_
    refine r_iinc (j := 6) o dX22_bound_64 rfl rfl [(6, vA (mg Γ) v1), (0, vA (mg Γ) l0), (1, vA (mg Γ) l1), (2, vI l2), (3, vA (mg Γ) l3), (4, vI l4)] [0, 1, 2, 3, 4, 5] rfl ⟨(Nat.ne_of_beq_eq_false rfl), (fun _ => (vA_cat (mg Γ) v1)), ⟨(Nat.ne_of_beq_eq_false rfl), (fun _ => (vA_cat (mg Γ) l0)), ⟨(Nat.ne_of_beq_eq_false rfl), (fun _ => (vA_cat (mg Γ) l1)), ⟨(Nat.ne_of_beq_eq_false rfl), (fun _ => rfl), ⟨(Nat.ne_of_beq_eq_false rfl), (fun _ => (vA_cat (mg Γ) l3)), ⟨(Nat.ne_of_beq_eq_false rfl), (fun _ => rfl), trivial⟩⟩⟩⟩⟩⟩ ?_
    refine s_goto (tgt := 43) o dX22_bound_67 (by decide) ?_
    refine r_to [(0, vA (mg Γ) l0), (1, vA (mg Γ) l1), (2, vI l2), (3, vA (mg Γ) l3), (4, vI l4), (5, vI (w32 (l5 + 1)))] [2, 3, 4, 5, 6, 0] rfl ?_
    exact s_back (⟨hl2, hl4, (w32_R _)⟩) rfl
noncomputable def b_X22_bound_43 (rc : Rc) {A : Type} (k_70 : Int → Int → Int → Mo CH A) (l0 : Int) (l1 : Int) (l2 : Int) (l3 : Int) (l4 : Int) (l5 : Int) : Mo CH A := Loop (fun x => b_X22_bound_43b rc k_70 x.1 x.2.1 x.2.2.1 x.2.2.2.1 x.2.2.2.2.1 x.2.2.2.2.2) (l0, l1, l2, l3, l4, l5)
theorem sb_X22_bound_43 {Γ : Gm} {ts : TS} {d : Nat} {rc : Rc} (hr : GR_bound (mg Γ) ts (d + 0) rc) (o : Ok Γ "LazyForge$Case" cX22_bound 7 (Option.none : Option Jvm.ClassFile.FieldType) (d + 1)) {A : Type} {K : A → CH → Prop} (k_70 : Int → Int → Int → Mo CH A) (hk_70 : ∀ (l0 : Int) (l1 : Int) (l2 : Int), R32 l2 → Sx Γ (fun h => (h, ts)) K 70 [(0, vA (mg Γ) l0), (1, vA (mg Γ) l1), (2, vI l2)] [] (k_70 l0 l1 l2)) (l0 : Int) (l1 : Int) (l2 : Int) (l3 : Int) (l4 : Int) (l5 : Int) (hl2 : R32 l2) (hl4 : R32 l4) (hl5 : R32 l5) : Sx Γ (fun h => (h, ts)) K 43 [(0, vA (mg Γ) l0), (1, vA (mg Γ) l1), (2, vI l2), (3, vA (mg Γ) l3), (4, vI l4), (5, vI l5)] [] (b_X22_bound_43 rc k_70 l0 l1 l2 l3 l4 l5) :=
  s_loop okb_X22_bound_43 (lvb_X22_bound_43 Γ) (fun x hx => sb_X22_bound_43b hr o k_70 hk_70 x.1 x.2.1 x.2.2.1 x.2.2.2.1 x.2.2.2.2.1 x.2.2.2.2.2 hx.1 hx.2.1 hx.2.2) (x := (l0, l1, l2, l3, l4, l5)) ⟨hl2, hl4, hl5⟩
abbrev okb_X22_bound_10 (x : Int × Int × Int) : Prop := R32 x.2.2
abbrev lvb_X22_bound_10 (Γ : Gm) (x : Int × Int × Int) : List (Nat × Value) := [(0, vA (mg Γ) x.1), (1, vA (mg Γ) x.2.1), (2, vI x.2.2)]
noncomputable def b_X22_bound_10b (rc : Rc) {A : Type} (k_76 : Mo CH A) (l0 : Int) (l1 : Int) (l2 : Int) : Mo CH ((Int × Int × Int) ⊕ A) :=
  bnd (gf [122] 9 l0) fun v1 =>
  bnd (aln v1) fun v2 =>
  if v2 ≤ l2 then
    lo k_76
  else
    bnd (gf [122] 9 l0) fun v3 =>
    bnd (ald 5 v3 l2) fun v4 =>
    bnd (rc 0 v4 l1 0 0 0) fun _ =>
    bnd (gf [122] 8 l0) fun v5 =>
    bnd (ald 9 v5 l2) fun v6 =>
    bnd (aln v6) fun v7 =>
    b_X22_bound_43 rc
      (fun v8 v9 v10 => pr (.inl (v8, v9, (w32 (v10 + 1))))) l0 l1 l2 v6 v7 0
theorem sb_X22_bound_10b {Γ : Gm} {ts : TS} {d : Nat} {rc : Rc} (hr : GR_bound (mg Γ) ts (d + 0) rc) (o : Ok Γ "LazyForge$Case" cX22_bound 7 (Option.none : Option Jvm.ClassFile.FieldType) (d + 1)) {A : Type} {K : A → CH → Prop} (k_76 : Mo CH A) (hk_76 : Sx Γ (fun h => (h, ts)) K 76 [] [] (k_76)) (l0 : Int) (l1 : Int) (l2 : Int) (hl2 : R32 l2) : Sx Γ (fun h => (h, ts)) (KL Γ (fun h => (h, ts)) okb_X22_bound_10 K 10 (lvb_X22_bound_10 Γ) []) 10 [(0, vA (mg Γ) l0), (1, vA (mg Γ) l1), (2, vI l2)] [] (b_X22_bound_10b rc k_76 l0 l1 l2) := by
  unfold b_X22_bound_10b
  refine s_iload_n o dX22_bound_10 rfl 2 rfl ?_
  refine s_aload_n o dX22_bound_11 rfl 0 rfl ?_
  refine r_getf (vA (mg Γ)) rfl o cf_X22_parts0 (Or.inl (lw_all_tbl q1499)) dX22_bound_12 (fun v1 hv1 => ?_)
  refine s_alen o dX22_bound_15 (fun v2 hv2 => ?_)
  refine s_icmp_ge (tgt := 76) o dX22_bound_16 (by decide) hl2 (rN hv2) ?_ ?_
  · refine r_to [] [] rfl ?_
    exact s_lo hk_76
  · refine s_aload_n o dX22_bound_19 rfl 0 rfl ?_
    refine r_getf (vA (mg Γ)) rfl o cf_X22_parts0 (Or.inl (lw_all_tbl q1499)) dX22_bound_20 (fun v3 hv3 => ?_)
    refine s_iload_n o dX22_bound_23 rfl 2 rfl ?_
    refine r_aald (kd := 5) o (by decide) rfl hl2 dX22_bound_24 (fun v4 => ?_)
    refine s_aload_n o dX22_bound_25 rfl 1 rfl ?_
    refine s_cu (d := d + 0) (As := [vA (mg Γ) l1]) (st := []) (owner := "LazyForge$Part") o (gr_bound_0 hr v4 l1) rfl (lw_all_tbl q1816) (lw_all_tbl q1808) (Or.inr ⟨_, _, _, (lw_all_tbl q1807), (lw_all_tbl q1838)⟩) ⟨by decide, by decide⟩ (by decide +kernel) wt_0 rfl dX22_bound_26 rfl (rs := fun _ => []) (fun _ => rfl) (fun _ _ => ?_)
    refine s_aload_n o dX22_bound_29 rfl 0 rfl ?_
    refine r_getf (vA (mg Γ)) rfl o cf_X22_bound (Or.inl (lw_all_tbl q1498)) dX22_bound_30 (fun v5 hv5 => ?_)
    refine s_iload_n o dX22_bound_33 rfl 2 rfl ?_
    refine r_aald (kd := 9) o (by decide) rfl hl2 dX22_bound_34 (fun v6 => ?_)
    refine r_astore_n o dX22_bound_35 rfl rfl ⟨(Nat.ne_of_beq_eq_false rfl), (fun _ => (vA_cat (mg Γ) l0)), ⟨(Nat.ne_of_beq_eq_false rfl), (fun _ => (vA_cat (mg Γ) l1)), ⟨(Nat.ne_of_beq_eq_false rfl), (fun _ => rfl), trivial⟩⟩⟩ ?_
    refine s_aload_n o dX22_bound_36 rfl 0 rfl ?_
    refine s_alen o dX22_bound_37 (fun v7 hv7 => ?_)
    refine r_istore o dX22_bound_38 rfl ⟨(Nat.ne_of_beq_eq_false rfl), (fun _ => (vA_cat (mg Γ) v6)), ⟨(Nat.ne_of_beq_eq_false rfl), (fun _ => (vA_cat (mg Γ) l0)), ⟨(Nat.ne_of_beq_eq_false rfl), (fun _ => (vA_cat (mg Γ) l1)), ⟨(Nat.ne_of_beq_eq_false rfl), (fun _ => rfl), trivial⟩⟩⟩⟩ ?_
    refine s_iconst o dX22_bound_40 ?_
    refine r_istore o dX22_bound_41 rfl ⟨(Nat.ne_of_beq_eq_false rfl), (fun _ => rfl), ⟨(Nat.ne_of_beq_eq_false rfl), (fun _ => (vA_cat (mg Γ) v6)), ⟨(Nat.ne_of_beq_eq_false rfl), (fun _ => (vA_cat (mg Γ) l0)), ⟨(Nat.ne_of_beq_eq_false rfl), (fun _ => (vA_cat (mg Γ) l1)), ⟨(Nat.ne_of_beq_eq_false rfl), (fun _ => rfl), trivial⟩⟩⟩⟩⟩ ?_
    refine r_to [(0, vA (mg Γ) l0), (1, vA (mg Γ) l1), (2, vI l2), (3, vA (mg Γ) v6), (4, vI v7), (5, vI 0)] [3, 4, 5, 2, 1, 0] rfl ?_
    refine sb_X22_bound_43 hr o _ ?_ l0 l1 l2 v6 v7 0 hl2 (rN hv7) (r32 rfl)
    · intro v8 v9 v10 hv10
      refine r_iinc (j := 2) o dX22_bound_70 rfl rfl [(0, vA (mg Γ) v8), (1, vA (mg Γ) v9)] [0, 1] rfl ⟨(Nat.ne_of_beq_eq_false rfl), (fun _ => (vA_cat (mg Γ) v8)), ⟨(Nat.ne_of_beq_eq_false rfl), (fun _ => (vA_cat (mg Γ) v9)), trivial⟩⟩ ?_
      refine s_goto (tgt := 10) o dX22_bound_73 (by decide) ?_
      refine r_to [(0, vA (mg Γ) v8), (1, vA (mg Γ) v9), (2, vI (w32 (v10 + 1)))] [1, 2, 0] rfl ?_
      exact s_back (w32_R _) rfl
noncomputable def b_X22_bound_10 (rc : Rc) {A : Type} (k_76 : Mo CH A) (l0 : Int) (l1 : Int) (l2 : Int) : Mo CH A := Loop (fun x => b_X22_bound_10b rc k_76 x.1 x.2.1 x.2.2) (l0, l1, l2)
theorem sb_X22_bound_10 {Γ : Gm} {ts : TS} {d : Nat} {rc : Rc} (hr : GR_bound (mg Γ) ts (d + 0) rc) (o : Ok Γ "LazyForge$Case" cX22_bound 7 (Option.none : Option Jvm.ClassFile.FieldType) (d + 1)) {A : Type} {K : A → CH → Prop} (k_76 : Mo CH A) (hk_76 : Sx Γ (fun h => (h, ts)) K 76 [] [] (k_76)) (l0 : Int) (l1 : Int) (l2 : Int) (hl2 : R32 l2) : Sx Γ (fun h => (h, ts)) K 10 [(0, vA (mg Γ) l0), (1, vA (mg Γ) l1), (2, vI l2)] [] (b_X22_bound_10 rc k_76 l0 l1 l2) :=
  s_loop okb_X22_bound_10 (lvb_X22_bound_10 Γ) (fun x hx => sb_X22_bound_10b hr o k_76 hk_76 x.1 x.2.1 x.2.2 hx) (x := (l0, l1, l2)) hl2
noncomputable def b_X22_bound (rc : Rc) (l0 : Int) (l1 : Int) : Mo CH Int :=
  bnd (gf [122] 5 l0) fun v1 =>
  bnd (rc 0 v1 l1 0 0 0) fun _ =>
  b_X22_bound_10 rc
    (pr 0) l0 l1 0
theorem sb_X22_bound (g : gC) (d : Nat) (ts : TS) (rc : Rc) (hr : GR_bound g ts (d + 0) rc) (l0 : Int) (l1 : Int) : SF g yX22_bound (Cond.code yX22_bound cX22_bound 7 (Option.none : Option Jvm.ClassFile.FieldType)) (Option.none : Option Jvm.ClassFile.FieldType) (d + 1) [vA g l0, vA g l1] (fun h => (h, ts)) (b_X22_bound rc l0 l1) := by
  refine SF.of (lv := [(0, vA g l0), (1, vA g l1)]) (by decide) (wt_A (wt_A wt_0)) rfl (by simp only [la_A, la_I, la_J, la_0]) (fun Γ hg hnm o => ?_)
  subst hg
  have o : Ok Γ "LazyForge$Case" cX22_bound 7 (Option.none : Option Jvm.ClassFile.FieldType) (d + 1) := o
  unfold b_X22_bound
  refine s_aload_n o dX22_bound_0 rfl 0 rfl ?_
  refine r_getf (vA (mg Γ)) rfl o cf_X22_of (Or.inl (lw_all_tbl q1495)) dX22_bound_1 (fun v1 hv1 => ?_)
  refine s_aload_n o dX22_bound_4 rfl 1 rfl ?_
  refine s_cu (d := d + 0) (As := [vA (mg Γ) l1]) (st := []) (owner := "LazyForge$Part") o (gr_bound_0 hr v1 l1) rfl (lw_all_tbl q1816) (lw_all_tbl q1808) (Or.inr ⟨_, _, _, (lw_all_tbl q1807), (lw_all_tbl q1838)⟩) ⟨by decide, by decide⟩ (by decide +kernel) wt_0 rfl dX22_bound_5 rfl (rs := fun _ => []) (fun _ => rfl) (fun _ _ => ?_)
  refine s_iconst o dX22_bound_8 ?_
  refine r_istore_n o dX22_bound_9 rfl rfl ⟨(Nat.ne_of_beq_eq_false rfl), (fun _ => (vA_cat (mg Γ) l0)), ⟨(Nat.ne_of_beq_eq_false rfl), (fun _ => (vA_cat (mg Γ) l1)), trivial⟩⟩ ?_
  refine r_to [(0, vA (mg Γ) l0), (1, vA (mg Γ) l1), (2, vI 0)] [1, 2, 0] rfl ?_
  refine sb_X22_bound_10 hr o _ ?_ l0 l1 0 (r32 rfl)
  · exact s_vret o rfl dX22_bound_76 (fun _ hh => hh)
abbrev okb_X21_bound_19 (x : Int × Int × Int × Int) : Prop := R32 x.2.2.1 ∧ R32 x.2.2.2
abbrev lvb_X21_bound_19 (Γ : Gm) (x : Int × Int × Int × Int) : List (Nat × Value) := [(1, vA (mg Γ) x.1), (2, vA (mg Γ) x.2.1), (3, vI x.2.2.1), (4, vI x.2.2.2)]
noncomputable def b_X21_bound_19b (rc : Rc) {A : Type} (k_43 : Mo CH A) (l1 : Int) (l2 : Int) (l3 : Int) (l4 : Int) : Mo CH ((Int × Int × Int × Int) ⊕ A) :=
  if l3 ≤ l4 then
    lo k_43
  else
    bnd (ald 5 l2 l4) fun v1 =>
    bnd (rc 0 v1 l1 0 0 0) fun _ =>
    pr (.inl (l1, l2, l3, (w32 (l4 + 1))))
theorem sb_X21_bound_19b {Γ : Gm} {ts : TS} {d : Nat} {rc : Rc} (hr : GR_bound (mg Γ) ts (d + 0) rc) (o : Ok Γ "LazyForge$Apply" cX21_bound 6 (Option.none : Option Jvm.ClassFile.FieldType) (d + 1)) {A : Type} {K : A → CH → Prop} (k_43 : Mo CH A) (hk_43 : Sx Γ (fun h => (h, ts)) K 43 [] [] (k_43)) (l1 : Int) (l2 : Int) (l3 : Int) (l4 : Int) (hl3 : R32 l3) (hl4 : R32 l4) : Sx Γ (fun h => (h, ts)) (KL Γ (fun h => (h, ts)) okb_X21_bound_19 K 19 (lvb_X21_bound_19 Γ) []) 19 [(1, vA (mg Γ) l1), (2, vA (mg Γ) l2), (3, vI l3), (4, vI l4)] [] (b_X21_bound_19b rc k_43 l1 l2 l3 l4) := by
  unfold b_X21_bound_19b
  refine s_iload o dX21_bound_19 3 rfl ?_
  refine s_iload_n o dX21_bound_21 rfl 2 rfl ?_
  refine s_icmp_ge (tgt := 43) o dX21_bound_22 (by decide) hl4 hl3 ?_ ?_
  · refine r_to [] [] rfl ?_
    exact s_lo hk_43
  · refine s_aload_n o dX21_bound_25 rfl 1 rfl ?_
    refine s_iload o dX21_bound_26 3 rfl ?_
    refine r_aald (kd := 5) o (by decide) rfl hl4 dX21_bound_28 (fun v1 => ?_)
    refine r_astore o dX21_bound_29 rfl ⟨(Nat.ne_of_beq_eq_false rfl), (fun _ => (vA_cat (mg Γ) l1)), ⟨(Nat.ne_of_beq_eq_false rfl), (fun _ => (vA_cat (mg Γ) l2)), ⟨(Nat.ne_of_beq_eq_false rfl), (fun _ => rfl), ⟨(Nat.ne_of_beq_eq_false rfl), (fun _ => rfl), trivial⟩⟩⟩⟩ ?_
    refine s_aload o dX21_bound_31 0 rfl ?_
    refine s_aload_n o dX21_bound_33 rfl 1 rfl ?_
    refine s_cu (d := d + 0) (As := [vA (mg Γ) l1]) (st := []) (owner := "LazyForge$Part") o (gr_bound_0 hr v1 l1) rfl (lw_all_tbl q1813) (lw_all_tbl q1808) (Or.inr ⟨_, _, _, (lw_all_tbl q1807), (lw_all_tbl q1838)⟩) ⟨by decide, by decide⟩ (by decide +kernel) wt_0 rfl dX21_bound_34 rfl (rs := fun _ => []) (fun _ => rfl) (fun _ _ => ?_)
    refine r_iinc (j := 4) o dX21_bound_37 rfl rfl [(5, vA (mg Γ) v1), (1, vA (mg Γ) l1), (2, vA (mg Γ) l2), (3, vI l3)] [0, 1, 2, 3] rfl ⟨(Nat.ne_of_beq_eq_false rfl), (fun _ => (vA_cat (mg Γ) v1)), ⟨(Nat.ne_of_beq_eq_false rfl), (fun _ => (vA_cat (mg Γ) l1)), ⟨(Nat.ne_of_beq_eq_false rfl), (fun _ => (vA_cat (mg Γ) l2)), ⟨(Nat.ne_of_beq_eq_false rfl), (fun _ => rfl), trivial⟩⟩⟩⟩ ?_
    refine s_goto (tgt := 19) o dX21_bound_40 (by decide) ?_
    refine r_to [(1, vA (mg Γ) l1), (2, vA (mg Γ) l2), (3, vI l3), (4, vI (w32 (l4 + 1)))] [2, 3, 4, 0] rfl ?_
    exact s_back (⟨hl3, (w32_R _)⟩) rfl
noncomputable def b_X21_bound_19 (rc : Rc) {A : Type} (k_43 : Mo CH A) (l1 : Int) (l2 : Int) (l3 : Int) (l4 : Int) : Mo CH A := Loop (fun x => b_X21_bound_19b rc k_43 x.1 x.2.1 x.2.2.1 x.2.2.2) (l1, l2, l3, l4)
theorem sb_X21_bound_19 {Γ : Gm} {ts : TS} {d : Nat} {rc : Rc} (hr : GR_bound (mg Γ) ts (d + 0) rc) (o : Ok Γ "LazyForge$Apply" cX21_bound 6 (Option.none : Option Jvm.ClassFile.FieldType) (d + 1)) {A : Type} {K : A → CH → Prop} (k_43 : Mo CH A) (hk_43 : Sx Γ (fun h => (h, ts)) K 43 [] [] (k_43)) (l1 : Int) (l2 : Int) (l3 : Int) (l4 : Int) (hl3 : R32 l3) (hl4 : R32 l4) : Sx Γ (fun h => (h, ts)) K 19 [(1, vA (mg Γ) l1), (2, vA (mg Γ) l2), (3, vI l3), (4, vI l4)] [] (b_X21_bound_19 rc k_43 l1 l2 l3 l4) :=
  s_loop okb_X21_bound_19 (lvb_X21_bound_19 Γ) (fun x hx => sb_X21_bound_19b hr o k_43 hk_43 x.1 x.2.1 x.2.2.1 x.2.2.2 hx.1 hx.2) (x := (l1, l2, l3, l4)) ⟨hl3, hl4⟩
noncomputable def b_X21_bound (rc : Rc) (l0 : Int) (l1 : Int) : Mo CH Int :=
  bnd (gf [121] 5 l0) fun v1 =>
  bnd (rc 0 v1 l1 0 0 0) fun _ =>
  bnd (gf [121] 6 l0) fun v2 =>
  bnd (aln v2) fun v3 =>
  b_X21_bound_19 rc
    (pr 0) l1 v2 v3 0
theorem sb_X21_bound (g : gC) (d : Nat) (ts : TS) (rc : Rc) (hr : GR_bound g ts (d + 0) rc) (l0 : Int) (l1 : Int) : SF g yX21_bound (Cond.code yX21_bound cX21_bound 6 (Option.none : Option Jvm.ClassFile.FieldType)) (Option.none : Option Jvm.ClassFile.FieldType) (d + 1) [vA g l0, vA g l1] (fun h => (h, ts)) (b_X21_bound rc l0 l1) := by
  refine SF.of (lv := [(0, vA g l0), (1, vA g l1)]) (by decide) (wt_A (wt_A wt_0)) rfl (by simp only [la_A, la_I, la_J, la_0]) (fun Γ hg hnm o => ?_)
  subst hg
  have o : Ok Γ "LazyForge$Apply" cX21_bound 6 (Option.none : Option Jvm.ClassFile.FieldType) (d + 1) := o
  unfold b_X21_bound
  refine s_aload_n o dX21_bound_0 rfl 0 rfl ?_
  refine r_getf (vA (mg Γ)) rfl o cf_X21_head (Or.inl (lw_all_tbl q1468)) dX21_bound_1 (fun v1 hv1 => ?_)
  refine s_aload_n o dX21_bound_4 rfl 1 rfl ?_
  refine s_cu (d := d + 0) (As := [vA (mg Γ) l1]) (st := []) (owner := "LazyForge$Part") o (gr_bound_0 hr v1 l1) rfl (lw_all_tbl q1813) (lw_all_tbl q1808) (Or.inr ⟨_, _, _, (lw_all_tbl q1807), (lw_all_tbl q1838)⟩) ⟨by decide, by decide⟩ (by decide +kernel) wt_0 rfl dX21_bound_5 rfl (rs := fun _ => []) (fun _ => rfl) (fun _ _ => ?_)
  refine s_aload_n o dX21_bound_8 rfl 0 rfl ?_
  refine r_getf (vA (mg Γ)) rfl o cf_X21_arguments (Or.inl (lw_all_tbl q1469)) dX21_bound_9 (fun v2 hv2 => ?_)
  refine r_astore_n o dX21_bound_12 rfl rfl ⟨(Nat.ne_of_beq_eq_false rfl), (fun _ => (vA_cat (mg Γ) l0)), ⟨(Nat.ne_of_beq_eq_false rfl), (fun _ => (vA_cat (mg Γ) l1)), trivial⟩⟩ ?_
  refine s_aload_n o dX21_bound_13 rfl 0 rfl ?_
  refine s_alen o dX21_bound_14 (fun v3 hv3 => ?_)
  refine r_istore_n o dX21_bound_15 rfl rfl ⟨(Nat.ne_of_beq_eq_false rfl), (fun _ => (vA_cat (mg Γ) v2)), ⟨(Nat.ne_of_beq_eq_false rfl), (fun _ => (vA_cat (mg Γ) l0)), ⟨(Nat.ne_of_beq_eq_false rfl), (fun _ => (vA_cat (mg Γ) l1)), trivial⟩⟩⟩ ?_
  refine s_iconst o dX21_bound_16 ?_
  refine r_istore o dX21_bound_17 rfl ⟨(Nat.ne_of_beq_eq_false rfl), (fun _ => rfl), ⟨(Nat.ne_of_beq_eq_false rfl), (fun _ => (vA_cat (mg Γ) v2)), ⟨(Nat.ne_of_beq_eq_false rfl), (fun _ => (vA_cat (mg Γ) l0)), ⟨(Nat.ne_of_beq_eq_false rfl), (fun _ => (vA_cat (mg Γ) l1)), trivial⟩⟩⟩⟩ ?_
  refine r_to [(1, vA (mg Γ) l1), (2, vA (mg Γ) v2), (3, vI v3), (4, vI 0)] [4, 2, 1, 0] rfl ?_
  refine sb_X21_bound_19 hr o _ ?_ l1 v2 v3 0 (rN hv3) (r32 rfl)
  · exact s_vret o rfl dX21_bound_43 (fun _ hh => hh)
abbrev okb_X18_bound_11 (x : Int × Int × Int × Int × Int) : Prop := R32 x.2.2.2.1 ∧ R32 x.2.2.2.2
abbrev lvb_X18_bound_11 (Γ : Gm) (x : Int × Int × Int × Int × Int) : List (Nat × Value) := [(0, vA (mg Γ) x.1), (1, vA (mg Γ) x.2.1), (2, vA (mg Γ) x.2.2.1), (3, vI x.2.2.2.1), (4, vI x.2.2.2.2)]
noncomputable def b_X18_bound_11b (rc : Rc) {A : Type} (k_35 : Int → Int → Mo CH A) (l0 : Int) (l1 : Int) (l2 : Int) (l3 : Int) (l4 : Int) : Mo CH ((Int × Int × Int × Int × Int) ⊕ A) :=
  if l3 ≤ l4 then
    lo (k_35 l0 l1)
  else
    bnd (ald 5 l2 l4) fun v1 =>
    bnd (rc 0 v1 l1 0 0 0) fun _ =>
    pr (.inl (l0, l1, l2, l3, (w32 (l4 + 1))))
theorem sb_X18_bound_11b {Γ : Gm} {ts : TS} {d : Nat} {rc : Rc} (hr : GR_bound (mg Γ) ts (d + 0) rc) (o : Ok Γ "LazyForge$Let" cX18_bound 6 (Option.none : Option Jvm.ClassFile.FieldType) (d + 1)) {A : Type} {K : A → CH → Prop} (k_35 : Int → Int → Mo CH A) (hk_35 : ∀ (l0 : Int) (l1 : Int), Sx Γ (fun h => (h, ts)) K 35 [(0, vA (mg Γ) l0), (1, vA (mg Γ) l1)] [] (k_35 l0 l1)) (l0 : Int) (l1 : Int) (l2 : Int) (l3 : Int) (l4 : Int) (hl3 : R32 l3) (hl4 : R32 l4) : Sx Γ (fun h => (h, ts)) (KL Γ (fun h => (h, ts)) okb_X18_bound_11 K 11 (lvb_X18_bound_11 Γ) []) 11 [(0, vA (mg Γ) l0), (1, vA (mg Γ) l1), (2, vA (mg Γ) l2), (3, vI l3), (4, vI l4)] [] (b_X18_bound_11b rc k_35 l0 l1 l2 l3 l4) := by
  unfold b_X18_bound_11b
  refine s_iload o dX18_bound_11 4 rfl ?_
  refine s_iload_n o dX18_bound_13 rfl 3 rfl ?_
  refine s_icmp_ge (tgt := 35) o dX18_bound_14 (by decide) hl4 hl3 ?_ ?_
  · refine r_to [(0, vA (mg Γ) l0), (1, vA (mg Γ) l1)] [0, 1] rfl ?_
    exact s_lo (hk_35 l0 l1)
  · refine s_aload_n o dX18_bound_17 rfl 2 rfl ?_
    refine s_iload o dX18_bound_18 4 rfl ?_
    refine r_aald (kd := 5) o (by decide) rfl hl4 dX18_bound_20 (fun v1 => ?_)
    refine r_astore o dX18_bound_21 rfl ⟨(Nat.ne_of_beq_eq_false rfl), (fun _ => (vA_cat (mg Γ) l0)), ⟨(Nat.ne_of_beq_eq_false rfl), (fun _ => (vA_cat (mg Γ) l1)), ⟨(Nat.ne_of_beq_eq_false rfl), (fun _ => (vA_cat (mg Γ) l2)), ⟨(Nat.ne_of_beq_eq_false rfl), (fun _ => rfl), ⟨(Nat.ne_of_beq_eq_false rfl), (fun _ => rfl), trivial⟩⟩⟩⟩⟩ ?_
    refine s_aload o dX18_bound_23 0 rfl ?_
    refine s_aload_n o dX18_bound_25 rfl 2 rfl ?_
    refine s_cu (d := d + 0) (As := [vA (mg Γ) l1]) (st := []) (owner := "LazyForge$Part") o (gr_bound_0 hr v1 l1) rfl (lw_all_tbl q1819) (lw_all_tbl q1808) (Or.inr ⟨_, _, _, (lw_all_tbl q1807), (lw_all_tbl q1838)⟩) ⟨by decide, by decide⟩ (by decide +kernel) wt_0 rfl dX18_bound_26 rfl (rs := fun _ => []) (fun _ => rfl) (fun _ _ => ?_)
    refine r_iinc (j := 5) o dX18_bound_29 rfl rfl [(5, vA (mg Γ) v1), (0, vA (mg Γ) l0), (1, vA (mg Γ) l1), (2, vA (mg Γ) l2), (3, vI l3)] [0, 1, 2, 3, 4] rfl ⟨(Nat.ne_of_beq_eq_false rfl), (fun _ => (vA_cat (mg Γ) v1)), ⟨(Nat.ne_of_beq_eq_false rfl), (fun _ => (vA_cat (mg Γ) l0)), ⟨(Nat.ne_of_beq_eq_false rfl), (fun _ => (vA_cat (mg Γ) l1)), ⟨(Nat.ne_of_beq_eq_false rfl), (fun _ => (vA_cat (mg Γ) l2)), ⟨(Nat.ne_of_beq_eq_false rfl), (fun _ => rfl), trivial⟩⟩⟩⟩⟩ ?_
    refine s_goto (tgt := 11) o dX18_bound_32 (by decide) ?_
    refine r_to [(0, vA (mg Γ) l0), (1, vA (mg Γ) l1), (2, vA (mg Γ) l2), (3, vI l3), (4, vI (w32 (l4 + 1)))] [2, 3, 4, 5, 0] rfl ?_
    exact s_back (⟨hl3, (w32_R _)⟩) rfl
noncomputable def b_X18_bound_11 (rc : Rc) {A : Type} (k_35 : Int → Int → Mo CH A) (l0 : Int) (l1 : Int) (l2 : Int) (l3 : Int) (l4 : Int) : Mo CH A := Loop (fun x => b_X18_bound_11b rc k_35 x.1 x.2.1 x.2.2.1 x.2.2.2.1 x.2.2.2.2) (l0, l1, l2, l3, l4)
theorem sb_X18_bound_11 {Γ : Gm} {ts : TS} {d : Nat} {rc : Rc} (hr : GR_bound (mg Γ) ts (d + 0) rc) (o : Ok Γ "LazyForge$Let" cX18_bound 6 (Option.none : Option Jvm.ClassFile.FieldType) (d + 1)) {A : Type} {K : A → CH → Prop} (k_35 : Int → Int → Mo CH A) (hk_35 : ∀ (l0 : Int) (l1 : Int), Sx Γ (fun h => (h, ts)) K 35 [(0, vA (mg Γ) l0), (1, vA (mg Γ) l1)] [] (k_35 l0 l1)) (l0 : Int) (l1 : Int) (l2 : Int) (l3 : Int) (l4 : Int) (hl3 : R32 l3) (hl4 : R32 l4) : Sx Γ (fun h => (h, ts)) K 11 [(0, vA (mg Γ) l0), (1, vA (mg Γ) l1), (2, vA (mg Γ) l2), (3, vI l3), (4, vI l4)] [] (b_X18_bound_11 rc k_35 l0 l1 l2 l3 l4) :=
  s_loop okb_X18_bound_11 (lvb_X18_bound_11 Γ) (fun x hx => sb_X18_bound_11b hr o k_35 hk_35 x.1 x.2.1 x.2.2.1 x.2.2.2.1 x.2.2.2.2 hx.1 hx.2) (x := (l0, l1, l2, l3, l4)) ⟨hl3, hl4⟩
abbrev okb_X18_bound_54 (x : Int × Int × Int × Int) : Prop := R32 x.2.2.1 ∧ R32 x.2.2.2
abbrev lvb_X18_bound_54 (Γ : Gm) (x : Int × Int × Int × Int) : List (Nat × Value) := [(1, vA (mg Γ) x.1), (2, vA (mg Γ) x.2.1), (3, vI x.2.2.1), (4, vI x.2.2.2)]
noncomputable def b_X18_bound_54b (rc : Rc) {A : Type} (k_80 : Mo CH A) (l1 : Int) (l2 : Int) (l3 : Int) (l4 : Int) : Mo CH ((Int × Int × Int × Int) ⊕ A) :=
  if l3 ≤ l4 then
    lo k_80
  else
    bnd (ald 7 l2 l4) fun v1 =>
    bnd (gf [117] 1 v1) fun v2 =>
    bnd (ast 3 l1 v2 0) fun _ =>
    pr (.inl (l1, l2, l3, (w32 (l4 + 1))))
theorem sb_X18_bound_54b {Γ : Gm} {ts : TS} {d : Nat} {rc : Rc} (hr : GR_bound (mg Γ) ts (d + 0) rc) (o : Ok Γ "LazyForge$Let" cX18_bound 6 (Option.none : Option Jvm.ClassFile.FieldType) (d + 1)) {A : Type} {K : A → CH → Prop} (k_80 : Mo CH A) (hk_80 : Sx Γ (fun h => (h, ts)) K 80 [] [] (k_80)) (l1 : Int) (l2 : Int) (l3 : Int) (l4 : Int) (hl3 : R32 l3) (hl4 : R32 l4) : Sx Γ (fun h => (h, ts)) (KL Γ (fun h => (h, ts)) okb_X18_bound_54 K 54 (lvb_X18_bound_54 Γ) []) 54 [(1, vA (mg Γ) l1), (2, vA (mg Γ) l2), (3, vI l3), (4, vI l4)] [] (b_X18_bound_54b rc k_80 l1 l2 l3 l4) := by
  unfold b_X18_bound_54b
  refine s_iload o dX18_bound_54 3 rfl ?_
  refine s_iload_n o dX18_bound_56 rfl 2 rfl ?_
  refine s_icmp_ge (tgt := 80) o dX18_bound_57 (by decide) hl4 hl3 ?_ ?_
  · refine r_to [] [] rfl ?_
    exact s_lo hk_80
  · refine s_aload_n o dX18_bound_60 rfl 1 rfl ?_
    refine s_iload o dX18_bound_61 3 rfl ?_
    refine r_aald (kd := 7) o (by decide) rfl hl4 dX18_bound_63 (fun v1 => ?_)
    refine r_astore o dX18_bound_64 rfl ⟨(Nat.ne_of_beq_eq_false rfl), (fun _ => (vA_cat (mg Γ) l1)), ⟨(Nat.ne_of_beq_eq_false rfl), (fun _ => (vA_cat (mg Γ) l2)), ⟨(Nat.ne_of_beq_eq_false rfl), (fun _ => rfl), ⟨(Nat.ne_of_beq_eq_false rfl), (fun _ => rfl), trivial⟩⟩⟩⟩ ?_
    refine s_aload_n o dX18_bound_66 rfl 1 rfl ?_
    refine s_aload o dX18_bound_67 0 rfl ?_
    refine r_getf vI rfl o cf_X17_number (Or.inr (Or.inl ⟨_, q1290⟩)) dX18_bound_69 (fun v2 hv2 => ?_)
    refine s_iconst o dX18_bound_72 ?_
    refine r_zast o hv2 (Or.inl rfl) dX18_bound_73 ?_
    refine r_iinc (j := 4) o dX18_bound_74 rfl rfl [(5, vA (mg Γ) v1), (1, vA (mg Γ) l1), (2, vA (mg Γ) l2), (3, vI l3)] [0, 1, 2, 3] rfl ⟨(Nat.ne_of_beq_eq_false rfl), (fun _ => (vA_cat (mg Γ) v1)), ⟨(Nat.ne_of_beq_eq_false rfl), (fun _ => (vA_cat (mg Γ) l1)), ⟨(Nat.ne_of_beq_eq_false rfl), (fun _ => (vA_cat (mg Γ) l2)), ⟨(Nat.ne_of_beq_eq_false rfl), (fun _ => rfl), trivial⟩⟩⟩⟩ ?_
    refine s_goto (tgt := 54) o dX18_bound_77 (by decide) ?_
    refine r_to [(1, vA (mg Γ) l1), (2, vA (mg Γ) l2), (3, vI l3), (4, vI (w32 (l4 + 1)))] [2, 3, 4, 0] rfl ?_
    exact s_back (⟨hl3, (w32_R _)⟩) rfl
noncomputable def b_X18_bound_54 (rc : Rc) {A : Type} (k_80 : Mo CH A) (l1 : Int) (l2 : Int) (l3 : Int) (l4 : Int) : Mo CH A := Loop (fun x => b_X18_bound_54b rc k_80 x.1 x.2.1 x.2.2.1 x.2.2.2) (l1, l2, l3, l4)
theorem sb_X18_bound_54 {Γ : Gm} {ts : TS} {d : Nat} {rc : Rc} (hr : GR_bound (mg Γ) ts (d + 0) rc) (o : Ok Γ "LazyForge$Let" cX18_bound 6 (Option.none : Option Jvm.ClassFile.FieldType) (d + 1)) {A : Type} {K : A → CH → Prop} (k_80 : Mo CH A) (hk_80 : Sx Γ (fun h => (h, ts)) K 80 [] [] (k_80)) (l1 : Int) (l2 : Int) (l3 : Int) (l4 : Int) (hl3 : R32 l3) (hl4 : R32 l4) : Sx Γ (fun h => (h, ts)) K 54 [(1, vA (mg Γ) l1), (2, vA (mg Γ) l2), (3, vI l3), (4, vI l4)] [] (b_X18_bound_54 rc k_80 l1 l2 l3 l4) :=
  s_loop okb_X18_bound_54 (lvb_X18_bound_54 Γ) (fun x hx => sb_X18_bound_54b hr o k_80 hk_80 x.1 x.2.1 x.2.2.1 x.2.2.2 hx.1 hx.2) (x := (l1, l2, l3, l4)) ⟨hl3, hl4⟩
noncomputable def b_X18_bound (rc : Rc) (l0 : Int) (l1 : Int) : Mo CH Int :=
  bnd (gf [118] 6 l0) fun v1 =>
  bnd (aln v1) fun v2 =>
  b_X18_bound_11 rc
    (fun v3 v4 => bnd (gf [118] 7 v3) fun v5 =>
  bnd (rc 0 v5 v4 0 0 0) fun _ =>
  bnd (gf [118] 5 v3) fun v6 =>
  bnd (aln v6) fun v7 =>
  b_X18_bound_54 rc
    (pr 0) v4 v6 v7 0) l0 l1 v1 v2 0
theorem sb_X18_bound (g : gC) (d : Nat) (ts : TS) (rc : Rc) (hr : GR_bound g ts (d + 0) rc) (l0 : Int) (l1 : Int) : SF g yX18_bound (Cond.code yX18_bound cX18_bound 6 (Option.none : Option Jvm.ClassFile.FieldType)) (Option.none : Option Jvm.ClassFile.FieldType) (d + 1) [vA g l0, vA g l1] (fun h => (h, ts)) (b_X18_bound rc l0 l1) := by
  refine SF.of (lv := [(0, vA g l0), (1, vA g l1)]) (by decide) (wt_A (wt_A wt_0)) rfl (by simp only [la_A, la_I, la_J, la_0]) (fun Γ hg hnm o => ?_)
  subst hg
  have o : Ok Γ "LazyForge$Let" cX18_bound 6 (Option.none : Option Jvm.ClassFile.FieldType) (d + 1) := o
  unfold b_X18_bound
  refine s_aload_n o dX18_bound_0 rfl 0 rfl ?_
  refine r_getf (vA (mg Γ)) rfl o cf_X18_bound (Or.inl (lw_all_tbl q1336)) dX18_bound_1 (fun v1 hv1 => ?_)
  refine r_astore_n o dX18_bound_4 rfl rfl ⟨(Nat.ne_of_beq_eq_false rfl), (fun _ => (vA_cat (mg Γ) l0)), ⟨(Nat.ne_of_beq_eq_false rfl), (fun _ => (vA_cat (mg Γ) l1)), trivial⟩⟩ ?_
  refine s_aload_n o dX18_bound_5 rfl 0 rfl ?_
  refine s_alen o dX18_bound_6 (fun v2 hv2 => ?_)
  refine r_istore_n o dX18_bound_7 rfl rfl ⟨(Nat.ne_of_beq_eq_false rfl), (fun _ => (vA_cat (mg Γ) v1)), ⟨(Nat.ne_of_beq_eq_false rfl), (fun _ => (vA_cat (mg Γ) l0)), ⟨(Nat.ne_of_beq_eq_false rfl), (fun _ => (vA_cat (mg Γ) l1)), trivial⟩⟩⟩ ?_
  refine s_iconst o dX18_bound_8 ?_
  refine r_istore o dX18_bound_9 rfl ⟨(Nat.ne_of_beq_eq_false rfl), (fun _ => rfl), ⟨(Nat.ne_of_beq_eq_false rfl), (fun _ => (vA_cat (mg Γ) v1)), ⟨(Nat.ne_of_beq_eq_false rfl), (fun _ => (vA_cat (mg Γ) l0)), ⟨(Nat.ne_of_beq_eq_false rfl), (fun _ => (vA_cat (mg Γ) l1)), trivial⟩⟩⟩⟩ ?_
  refine r_to [(0, vA (mg Γ) l0), (1, vA (mg Γ) l1), (2, vA (mg Γ) v1), (3, vI v2), (4, vI 0)] [3, 4, 2, 1, 0] rfl ?_
  refine sb_X18_bound_11 hr o _ ?_ l0 l1 v1 v2 0 (rN hv2) (r32 rfl)
  · intro v3 v4
    refine s_aload_n o dX18_bound_35 rfl 0 rfl ?_
    refine r_getf (vA (mg Γ)) rfl o cf_X18_body (Or.inl (lw_all_tbl q1337)) dX18_bound_36 (fun v5 hv5 => ?_)
    refine s_aload_n o dX18_bound_39 rfl 1 rfl ?_
    refine s_cu (d := d + 0) (As := [vA (mg Γ) v4]) (st := []) (owner := "LazyForge$Part") o (gr_bound_0 hr v5 v4) rfl (lw_all_tbl q1819) (lw_all_tbl q1808) (Or.inr ⟨_, _, _, (lw_all_tbl q1807), (lw_all_tbl q1838)⟩) ⟨by decide, by decide⟩ (by decide +kernel) wt_0 rfl dX18_bound_40 rfl (rs := fun _ => []) (fun _ => rfl) (fun _ _ => ?_)
    refine s_aload_n o dX18_bound_43 rfl 0 rfl ?_
    refine r_getf (vA (mg Γ)) rfl o cf_X18_names (Or.inl (lw_all_tbl q1335)) dX18_bound_44 (fun v6 hv6 => ?_)
    refine r_astore_n o dX18_bound_47 rfl rfl ⟨(Nat.ne_of_beq_eq_false rfl), (fun _ => (vA_cat (mg Γ) v3)), ⟨(Nat.ne_of_beq_eq_false rfl), (fun _ => (vA_cat (mg Γ) v4)), trivial⟩⟩ ?_
    refine s_aload_n o dX18_bound_48 rfl 0 rfl ?_
    refine s_alen o dX18_bound_49 (fun v7 hv7 => ?_)
    refine r_istore_n o dX18_bound_50 rfl rfl ⟨(Nat.ne_of_beq_eq_false rfl), (fun _ => (vA_cat (mg Γ) v6)), ⟨(Nat.ne_of_beq_eq_false rfl), (fun _ => (vA_cat (mg Γ) v3)), ⟨(Nat.ne_of_beq_eq_false rfl), (fun _ => (vA_cat (mg Γ) v4)), trivial⟩⟩⟩ ?_
    refine s_iconst o dX18_bound_51 ?_
    refine r_istore o dX18_bound_52 rfl ⟨(Nat.ne_of_beq_eq_false rfl), (fun _ => rfl), ⟨(Nat.ne_of_beq_eq_false rfl), (fun _ => (vA_cat (mg Γ) v6)), ⟨(Nat.ne_of_beq_eq_false rfl), (fun _ => (vA_cat (mg Γ) v3)), ⟨(Nat.ne_of_beq_eq_false rfl), (fun _ => (vA_cat (mg Γ) v4)), trivial⟩⟩⟩⟩ ?_
    refine r_to [(1, vA (mg Γ) v4), (2, vA (mg Γ) v6), (3, vI v7), (4, vI 0)] [4, 2, 1, 0] rfl ?_
    refine sb_X18_bound_54 hr o _ ?_ v4 v6 v7 0 (rN hv7) (r32 rfl)
    · exact s_vret o rfl dX18_bound_80 (fun _ hh => hh)
noncomputable def v_X4_bound_b (rc : Rc) (l0 : Int) (l1 : Int) : Mo CH Int := dsp l0 [([106, 107, 108, 109, 110, 119, 120, 124, 126], c_X4_bound l0 l1), ([118], b_X18_bound rc l0 l1), ([121], b_X21_bound rc l0 l1), ([122], b_X22_bound rc l0 l1), ([123], b_X23_bound rc l0 l1), ([125], b_X25_bound rc l0 l1)]
theorem sv_X4_bound_b (g : gC) (d : Nat) (ts : TS) (rc : Rc) (hr : GR_bound g ts (d + 0) rc) (l0 : Int) (l1 : Int) : VR g ts ⟨"LazyForge$Part", "bound", "([Z)V"⟩ none 1 (d + 1) l0 [vA g l1] (v_X4_bound_b rc l0 l1) := (VR.cons (x0 := ⟨"LazyForge$Part", "bound", "([Z)V"⟩) ⟨⟨6, _, rfl, rfl, (lw_all_tbl q1836)⟩, ⟨⟨7, _, rfl, rfl, (lw_all_tbl q1830)⟩, ⟨⟨8, _, rfl, rfl, (lw_all_tbl q1809)⟩, ⟨⟨9, _, rfl, rfl, (lw_all_tbl q1827)⟩, ⟨⟨10, _, rfl, rfl, (lw_all_tbl q1829)⟩, ⟨⟨19, _, rfl, rfl, (lw_all_tbl q1834)⟩, ⟨⟨20, _, rfl, rfl, (lw_all_tbl q1837)⟩, ⟨⟨24, _, rfl, rfl, (lw_all_tbl q1832)⟩, ⟨⟨26, _, rfl, rfl, (lw_all_tbl q1828)⟩, trivial⟩⟩⟩⟩⟩⟩⟩⟩⟩ (lw_all_tbl q1807) mw_X4_bound (sc_X4_bound g (d + 1) ts l0 l1) (VR.cons (x0 := ⟨"LazyForge$Part", "bound", "([Z)V"⟩) ⟨⟨18, _, rfl, rfl, (lw_all_tbl q1831)⟩, trivial⟩ (lw_all_tbl q1817) mw_X18_bound (sb_X18_bound g d ts rc hr l0 l1) (VR.cons (x0 := ⟨"LazyForge$Part", "bound", "([Z)V"⟩) ⟨⟨21, _, rfl, rfl, (lw_all_tbl q1810)⟩, trivial⟩ (lw_all_tbl q1811) mw_X21_bound (sb_X21_bound g d ts rc hr l0 l1) (VR.cons (x0 := ⟨"LazyForge$Part", "bound", "([Z)V"⟩) ⟨⟨22, _, rfl, rfl, (lw_all_tbl q1826)⟩, trivial⟩ (lw_all_tbl q1814) mw_X22_bound (sb_X22_bound g d ts rc hr l0 l1) (VR.cons (x0 := ⟨"LazyForge$Part", "bound", "([Z)V"⟩) ⟨⟨23, _, rfl, rfl, (lw_all_tbl q1835)⟩, trivial⟩ (lw_all_tbl q1823) mw_X23_bound (sb_X23_bound g d ts rc hr l0 l1) (VR.cons (x0 := ⟨"LazyForge$Part", "bound", "([Z)V"⟩) ⟨⟨25, _, rfl, rfl, (lw_all_tbl q1833)⟩, trivial⟩ (lw_all_tbl q1820) mw_X25_bound (sb_X25_bound g d ts rc hr l0 l1) VR.nil))))))
noncomputable def G_bound (rc : Rc) : Rc := fun j a0 a1 a2 a3 a4 => match j with
  | 0 => v_X4_bound_b rc a0 a1
  | _ => no
noncomputable def R_bound : Nat → Rc
  | 0 => fun _ _ _ _ _ _ => no
  | n + 1 => G_bound (R_bound n)
theorem G_bound_ok (g : gC) (ts : TS) (d : Nat) (rc : Rc) (hr : GR_bound g ts (d + 0) rc) : GR_bound g ts (d + 1) (G_bound rc) := (fun l0 l1 => sv_X4_bound_b g d ts rc hr l0 l1)
theorem R_bound_ok (g : gC) (ts : TS) : ∀ n d, GR_bound g ts (d + 0 + n) (R_bound n)
  | 0, d => (fun _ _ _ _ _ e => by cases e)
  | n + 1, d => by
    have h := R_bound_ok g ts n d
    rw [show d + 0 + n = (d + n) + 0 by omega] at h
    have h := G_bound_ok g ts _ _ h
    rw [show d + 0 + (n + 1) = (d + n) + 1 by omega]
    exact h
noncomputable def v_X4_bound (l0 : Int) (l1 : Int) : Mo CH Int := R_bound 200 0 l0 l1 0 0 0
theorem sv_X4_bound (g : gC) (d : Nat) (ts : TS) (l0 : Int) (l1 : Int) : VR g ts ⟨"LazyForge$Part", "bound", "([Z)V"⟩ none 1 (d + 200) l0 [vA g l1] (v_X4_bound l0 l1) := by
  have h := R_bound_ok g ts 200 d
  rw [Nat.add_assoc] at h
  exact gr_bound_0 h l0 l1
theorem dX19_uses_0 : decode cX19_uses 0 = .ok (.return_, 1) := by decide +kernel
theorem mw_X19_uses : MW yX19_uses (Cond.code yX19_uses cX19_uses 2 (Option.none : Option Jvm.ClassFile.FieldType)) cX19_uses 2 (Option.none : Option Jvm.ClassFile.FieldType) 1 := ⟨rfl, ⟨(lw_all_tbl q1788), rfl, (lw_all_tbl q199)⟩, rfl, ⟨by decide, by decide⟩, by decide +kernel⟩
noncomputable def c_X19_uses (l0 : Int) (l1 : Int) : Mo CH Int :=
  pr 0
theorem sc_X19_uses (g : gC) (d : Nat) (ts : TS) (l0 : Int) (l1 : Int) : SF g yX19_uses (Cond.code yX19_uses cX19_uses 2 (Option.none : Option Jvm.ClassFile.FieldType)) (Option.none : Option Jvm.ClassFile.FieldType) (d + 0) [vA g l0, vA g l1] (fun h => (h, ts)) (c_X19_uses l0 l1) := by
  refine SF.of (lv := [(0, vA g l0), (1, vA g l1)]) (by decide) (wt_A (wt_A wt_0)) rfl (by simp only [la_A, la_I, la_J, la_0]) (fun Γ hg hnm o => ?_)
  subst hg
  have o : Ok Γ "LazyForge$Named" cX19_uses 2 (Option.none : Option Jvm.ClassFile.FieldType) (d + 0) := o
  unfold c_X19_uses
  exact s_vret o rfl dX19_uses_0 (fun _ hh => hh)
theorem dX20_uses_0 : decode cX20_uses 0 = .ok (.aload_n 1, 1) := by decide +kernel
theorem dX20_uses_1 : decode cX20_uses 1 = .ok (.aload_n 0, 1) := by decide +kernel
theorem dX20_uses_2 : decode cX20_uses 2 = .ok (.getfield 23, 3) := by decide +kernel
theorem dX20_uses_5 : decode cX20_uses 5 = .ok (.iconst 1, 1) := by decide +kernel
theorem dX20_uses_6 : decode cX20_uses 6 = .ok (.bastore, 1) := by decide +kernel
theorem dX20_uses_7 : decode cX20_uses 7 = .ok (.return_, 1) := by decide +kernel
theorem mw_X20_uses : MW yX20_uses (Cond.code yX20_uses cX20_uses 2 (Option.none : Option Jvm.ClassFile.FieldType)) cX20_uses 2 (Option.none : Option Jvm.ClassFile.FieldType) 1 := ⟨rfl, ⟨(lw_all_tbl q1793), rfl, (lw_all_tbl q200)⟩, rfl, ⟨by decide, by decide⟩, by decide +kernel⟩
noncomputable def c_X20_uses (l0 : Int) (l1 : Int) : Mo CH Int :=
  bnd (gf [120] 7 l0) fun v1 =>
  bnd (ast 3 l1 v1 1) fun _ =>
  pr 0
theorem sc_X20_uses (g : gC) (d : Nat) (ts : TS) (l0 : Int) (l1 : Int) : SF g yX20_uses (Cond.code yX20_uses cX20_uses 2 (Option.none : Option Jvm.ClassFile.FieldType)) (Option.none : Option Jvm.ClassFile.FieldType) (d + 0) [vA g l0, vA g l1] (fun h => (h, ts)) (c_X20_uses l0 l1) := by
  refine SF.of (lv := [(0, vA g l0), (1, vA g l1)]) (by decide) (wt_A (wt_A wt_0)) rfl (by simp only [la_A, la_I, la_J, la_0]) (fun Γ hg hnm o => ?_)
  subst hg
  have o : Ok Γ "LazyForge$Use" cX20_uses 2 (Option.none : Option Jvm.ClassFile.FieldType) (d + 0) := o
  unfold c_X20_uses
  refine s_aload_n o dX20_uses_0 rfl 1 rfl ?_
  refine s_aload_n o dX20_uses_1 rfl 0 rfl ?_
  refine r_getf vI rfl o cf_X20_number0 (Or.inl (lw_all_tbl q1446)) dX20_uses_2 (fun v1 hv1 => ?_)
  refine s_iconst o dX20_uses_5 ?_
  refine r_zast o hv1 (Or.inr rfl) dX20_uses_6 ?_
  exact s_vret o rfl dX20_uses_7 (fun _ hh => hh)
theorem dX24_uses_0 : decode cX24_uses 0 = .ok (.return_, 1) := by decide +kernel
theorem mw_X24_uses : MW yX24_uses (Cond.code yX24_uses cX24_uses 2 (Option.none : Option Jvm.ClassFile.FieldType)) cX24_uses 2 (Option.none : Option Jvm.ClassFile.FieldType) 1 := ⟨rfl, ⟨(lw_all_tbl q1783), rfl, (lw_all_tbl q204)⟩, rfl, ⟨by decide, by decide⟩, by decide +kernel⟩
noncomputable def c_X24_uses (l0 : Int) (l1 : Int) : Mo CH Int :=
  pr 0
theorem sc_X24_uses (g : gC) (d : Nat) (ts : TS) (l0 : Int) (l1 : Int) : SF g yX24_uses (Cond.code yX24_uses cX24_uses 2 (Option.none : Option Jvm.ClassFile.FieldType)) (Option.none : Option Jvm.ClassFile.FieldType) (d + 0) [vA g l0, vA g l1] (fun h => (h, ts)) (c_X24_uses l0 l1) := by
  refine SF.of (lv := [(0, vA g l0), (1, vA g l1)]) (by decide) (wt_A (wt_A wt_0)) rfl (by simp only [la_A, la_I, la_J, la_0]) (fun Γ hg hnm o => ?_)
  subst hg
  have o : Ok Γ "LazyForge$Literal" cX24_uses 2 (Option.none : Option Jvm.ClassFile.FieldType) (d + 0) := o
  unfold c_X24_uses
  exact s_vret o rfl dX24_uses_0 (fun _ hh => hh)
theorem dX26_uses_0 : decode cX26_uses 0 = .ok (.return_, 1) := by decide +kernel
theorem mw_X26_uses : MW yX26_uses (Cond.code yX26_uses cX26_uses 2 (Option.none : Option Jvm.ClassFile.FieldType)) cX26_uses 2 (Option.none : Option Jvm.ClassFile.FieldType) 1 := ⟨rfl, ⟨(lw_all_tbl q1778), rfl, (lw_all_tbl q206)⟩, rfl, ⟨by decide, by decide⟩, by decide +kernel⟩
noncomputable def c_X26_uses (l0 : Int) (l1 : Int) : Mo CH Int :=
  pr 0
theorem sc_X26_uses (g : gC) (d : Nat) (ts : TS) (l0 : Int) (l1 : Int) : SF g yX26_uses (Cond.code yX26_uses cX26_uses 2 (Option.none : Option Jvm.ClassFile.FieldType)) (Option.none : Option Jvm.ClassFile.FieldType) (d + 0) [vA g l0, vA g l1] (fun h => (h, ts)) (c_X26_uses l0 l1) := by
  refine SF.of (lv := [(0, vA g l0), (1, vA g l1)]) (by decide) (wt_A (wt_A wt_0)) rfl (by simp only [la_A, la_I, la_J, la_0]) (fun Γ hg hnm o => ?_)
  subst hg
  have o : Ok Γ "LazyForge$Fail" cX26_uses 2 (Option.none : Option Jvm.ClassFile.FieldType) (d + 0) := o
  unfold c_X26_uses
  exact s_vret o rfl dX26_uses_0 (fun _ hh => hh)
theorem dX25_uses_0 : decode cX25_uses 0 = .ok (.aload_n 0, 1) := by decide +kernel
theorem dX25_uses_1 : decode cX25_uses 1 = .ok (.getfield 15, 3) := by decide +kernel
theorem dX25_uses_4 : decode cX25_uses 4 = .ok (.astore_n 2, 1) := by decide +kernel
theorem dX25_uses_5 : decode cX25_uses 5 = .ok (.aload_n 2, 1) := by decide +kernel
theorem dX25_uses_6 : decode cX25_uses 6 = .ok (.arraylength, 1) := by decide +kernel
theorem dX25_uses_7 : decode cX25_uses 7 = .ok (.istore_n 3, 1) := by decide +kernel
theorem dX25_uses_8 : decode cX25_uses 8 = .ok (.iconst 0, 1) := by decide +kernel
theorem dX25_uses_9 : decode cX25_uses 9 = .ok (.istore 4, 2) := by decide +kernel
theorem dX25_uses_11 : decode cX25_uses 11 = .ok (.iload 4, 2) := by decide +kernel
theorem dX25_uses_13 : decode cX25_uses 13 = .ok (.iload_n 3, 1) := by decide +kernel
theorem dX25_uses_14 : decode cX25_uses 14 = .ok (.if_icmp .ge 21, 3) := by decide +kernel
theorem dX25_uses_17 : decode cX25_uses 17 = .ok (.aload_n 2, 1) := by decide +kernel
theorem dX25_uses_18 : decode cX25_uses 18 = .ok (.iload 4, 2) := by decide +kernel
theorem dX25_uses_20 : decode cX25_uses 20 = .ok (.aaload, 1) := by decide +kernel
theorem dX25_uses_21 : decode cX25_uses 21 = .ok (.astore 5, 2) := by decide +kernel
theorem dX25_uses_23 : decode cX25_uses 23 = .ok (.aload 5, 2) := by decide +kernel
theorem dX25_uses_25 : decode cX25_uses 25 = .ok (.aload_n 1, 1) := by decide +kernel
theorem dX25_uses_26 : decode cX25_uses 26 = .ok (.invokevirtual 27, 3) := by decide +kernel
theorem dX25_uses_29 : decode cX25_uses 29 = .ok (.iinc 4 1, 3) := by decide +kernel
theorem dX25_uses_32 : decode cX25_uses 32 = .ok (.goto (-21), 3) := by decide +kernel
theorem dX25_uses_35 : decode cX25_uses 35 = .ok (.return_, 1) := by decide +kernel
theorem mw_X25_uses : MW yX25_uses (Cond.code yX25_uses cX25_uses 6 (Option.none : Option Jvm.ClassFile.FieldType)) cX25_uses 6 (Option.none : Option Jvm.ClassFile.FieldType) 1 := ⟨rfl, ⟨(lw_all_tbl q1785), rfl, (lw_all_tbl q205)⟩, rfl, ⟨by decide, by decide⟩, by decide +kernel⟩
theorem dX23_uses_0 : decode cX23_uses 0 = .ok (.aload_n 0, 1) := by decide +kernel
theorem dX23_uses_1 : decode cX23_uses 1 = .ok (.getfield 13, 3) := by decide +kernel
theorem dX23_uses_4 : decode cX23_uses 4 = .ok (.aload_n 1, 1) := by decide +kernel
theorem dX23_uses_5 : decode cX23_uses 5 = .ok (.invokevirtual 32, 3) := by decide +kernel
theorem dX23_uses_8 : decode cX23_uses 8 = .ok (.aload_n 0, 1) := by decide +kernel
theorem dX23_uses_9 : decode cX23_uses 9 = .ok (.getfield 17, 3) := by decide +kernel
theorem dX23_uses_12 : decode cX23_uses 12 = .ok (.aload_n 1, 1) := by decide +kernel
theorem dX23_uses_13 : decode cX23_uses 13 = .ok (.invokevirtual 32, 3) := by decide +kernel
theorem dX23_uses_16 : decode cX23_uses 16 = .ok (.return_, 1) := by decide +kernel
theorem mw_X23_uses : MW yX23_uses (Cond.code yX23_uses cX23_uses 2 (Option.none : Option Jvm.ClassFile.FieldType)) cX23_uses 2 (Option.none : Option Jvm.ClassFile.FieldType) 1 := ⟨rfl, ⟨(lw_all_tbl q1790), rfl, (lw_all_tbl q203)⟩, rfl, ⟨by decide, by decide⟩, by decide +kernel⟩
theorem dX22_uses_0 : decode cX22_uses 0 = .ok (.aload_n 0, 1) := by decide +kernel
theorem dX22_uses_1 : decode cX22_uses 1 = .ok (.getfield 9, 3) := by decide +kernel
theorem dX22_uses_4 : decode cX22_uses 4 = .ok (.aload_n 1, 1) := by decide +kernel
theorem dX22_uses_5 : decode cX22_uses 5 = .ok (.invokevirtual 48, 3) := by decide +kernel
theorem dX22_uses_8 : decode cX22_uses 8 = .ok (.aload_n 0, 1) := by decide +kernel
theorem dX22_uses_9 : decode cX22_uses 9 = .ok (.getfield 26, 3) := by decide +kernel
theorem dX22_uses_12 : decode cX22_uses 12 = .ok (.astore_n 2, 1) := by decide +kernel
theorem dX22_uses_13 : decode cX22_uses 13 = .ok (.aload_n 2, 1) := by decide +kernel
theorem dX22_uses_14 : decode cX22_uses 14 = .ok (.arraylength, 1) := by decide +kernel
theorem dX22_uses_15 : decode cX22_uses 15 = .ok (.istore_n 3, 1) := by decide +kernel
theorem dX22_uses_16 : decode cX22_uses 16 = .ok (.iconst 0, 1) := by decide +kernel
theorem dX22_uses_17 : decode cX22_uses 17 = .ok (.istore 4, 2) := by decide +kernel
theorem dX22_uses_19 : decode cX22_uses 19 = .ok (.iload 4, 2) := by decide +kernel
theorem dX22_uses_21 : decode cX22_uses 21 = .ok (.iload_n 3, 1) := by decide +kernel
theorem dX22_uses_22 : decode cX22_uses 22 = .ok (.if_icmp .ge 21, 3) := by decide +kernel
theorem dX22_uses_25 : decode cX22_uses 25 = .ok (.aload_n 2, 1) := by decide +kernel
theorem dX22_uses_26 : decode cX22_uses 26 = .ok (.iload 4, 2) := by decide +kernel
theorem dX22_uses_28 : decode cX22_uses 28 = .ok (.aaload, 1) := by decide +kernel
theorem dX22_uses_29 : decode cX22_uses 29 = .ok (.astore 5, 2) := by decide +kernel
theorem dX22_uses_31 : decode cX22_uses 31 = .ok (.aload 5, 2) := by decide +kernel
theorem dX22_uses_33 : decode cX22_uses 33 = .ok (.aload_n 1, 1) := by decide +kernel
theorem dX22_uses_34 : decode cX22_uses 34 = .ok (.invokevirtual 48, 3) := by decide +kernel
theorem dX22_uses_37 : decode cX22_uses 37 = .ok (.iinc 4 1, 3) := by decide +kernel
theorem dX22_uses_40 : decode cX22_uses 40 = .ok (.goto (-21), 3) := by decide +kernel
theorem dX22_uses_43 : decode cX22_uses 43 = .ok (.return_, 1) := by decide +kernel
theorem mw_X22_uses : MW yX22_uses (Cond.code yX22_uses cX22_uses 6 (Option.none : Option Jvm.ClassFile.FieldType)) cX22_uses 6 (Option.none : Option Jvm.ClassFile.FieldType) 1 := ⟨rfl, ⟨(lw_all_tbl q1775), rfl, (lw_all_tbl q202)⟩, rfl, ⟨by decide, by decide⟩, by decide +kernel⟩
theorem dX21_uses_0 : decode cX21_uses 0 = .ok (.aload_n 0, 1) := by decide +kernel
theorem dX21_uses_1 : decode cX21_uses 1 = .ok (.getfield 9, 3) := by decide +kernel
theorem dX21_uses_4 : decode cX21_uses 4 = .ok (.aload_n 1, 1) := by decide +kernel
theorem dX21_uses_5 : decode cX21_uses 5 = .ok (.invokevirtual 54, 3) := by decide +kernel
theorem dX21_uses_8 : decode cX21_uses 8 = .ok (.aload_n 0, 1) := by decide +kernel
theorem dX21_uses_9 : decode cX21_uses 9 = .ok (.getfield 15, 3) := by decide +kernel
theorem dX21_uses_12 : decode cX21_uses 12 = .ok (.astore_n 2, 1) := by decide +kernel
theorem dX21_uses_13 : decode cX21_uses 13 = .ok (.aload_n 2, 1) := by decide +kernel
theorem dX21_uses_14 : decode cX21_uses 14 = .ok (.arraylength, 1) := by decide +kernel
theorem dX21_uses_15 : decode cX21_uses 15 = .ok (.istore_n 3, 1) := by decide +kernel
theorem dX21_uses_16 : decode cX21_uses 16 = .ok (.iconst 0, 1) := by decide +kernel
theorem dX21_uses_17 : decode cX21_uses 17 = .ok (.istore 4, 2) := by decide +kernel
theorem dX21_uses_19 : decode cX21_uses 19 = .ok (.iload 4, 2) := by decide +kernel
theorem dX21_uses_21 : decode cX21_uses 21 = .ok (.iload_n 3, 1) := by decide +kernel
theorem dX21_uses_22 : decode cX21_uses 22 = .ok (.if_icmp .ge 21, 3) := by decide +kernel
theorem dX21_uses_25 : decode cX21_uses 25 = .ok (.aload_n 2, 1) := by decide +kernel
theorem dX21_uses_26 : decode cX21_uses 26 = .ok (.iload 4, 2) := by decide +kernel
theorem dX21_uses_28 : decode cX21_uses 28 = .ok (.aaload, 1) := by decide +kernel
theorem dX21_uses_29 : decode cX21_uses 29 = .ok (.astore 5, 2) := by decide +kernel
theorem dX21_uses_31 : decode cX21_uses 31 = .ok (.aload 5, 2) := by decide +kernel
theorem dX21_uses_33 : decode cX21_uses 33 = .ok (.aload_n 1, 1) := by decide +kernel
theorem dX21_uses_34 : decode cX21_uses 34 = .ok (.invokevirtual 54, 3) := by decide +kernel
theorem dX21_uses_37 : decode cX21_uses 37 = .ok (.iinc 4 1, 3) := by decide +kernel
theorem dX21_uses_40 : decode cX21_uses 40 = .ok (.goto (-21), 3) := by decide +kernel
theorem dX21_uses_43 : decode cX21_uses 43 = .ok (.return_, 1) := by decide +kernel
theorem mw_X21_uses : MW yX21_uses (Cond.code yX21_uses cX21_uses 6 (Option.none : Option Jvm.ClassFile.FieldType)) cX21_uses 6 (Option.none : Option Jvm.ClassFile.FieldType) 1 := ⟨rfl, ⟨(lw_all_tbl q1772), rfl, (lw_all_tbl q201)⟩, rfl, ⟨by decide, by decide⟩, by decide +kernel⟩
theorem dX18_uses_0 : decode cX18_uses 0 = .ok (.aload_n 0, 1) := by decide +kernel
theorem dX18_uses_1 : decode cX18_uses 1 = .ok (.getfield 13, 3) := by decide +kernel
theorem dX18_uses_4 : decode cX18_uses 4 = .ok (.astore_n 2, 1) := by decide +kernel
theorem dX18_uses_5 : decode cX18_uses 5 = .ok (.aload_n 2, 1) := by decide +kernel
theorem dX18_uses_6 : decode cX18_uses 6 = .ok (.arraylength, 1) := by decide +kernel
theorem dX18_uses_7 : decode cX18_uses 7 = .ok (.istore_n 3, 1) := by decide +kernel
theorem dX18_uses_8 : decode cX18_uses 8 = .ok (.iconst 0, 1) := by decide +kernel
theorem dX18_uses_9 : decode cX18_uses 9 = .ok (.istore 4, 2) := by decide +kernel
theorem dX18_uses_11 : decode cX18_uses 11 = .ok (.iload 4, 2) := by decide +kernel
theorem dX18_uses_13 : decode cX18_uses 13 = .ok (.iload_n 3, 1) := by decide +kernel
theorem dX18_uses_14 : decode cX18_uses 14 = .ok (.if_icmp .ge 21, 3) := by decide +kernel
theorem dX18_uses_17 : decode cX18_uses 17 = .ok (.aload_n 2, 1) := by decide +kernel
theorem dX18_uses_18 : decode cX18_uses 18 = .ok (.iload 4, 2) := by decide +kernel
theorem dX18_uses_20 : decode cX18_uses 20 = .ok (.aaload, 1) := by decide +kernel
theorem dX18_uses_21 : decode cX18_uses 21 = .ok (.astore 5, 2) := by decide +kernel
theorem dX18_uses_23 : decode cX18_uses 23 = .ok (.aload 5, 2) := by decide +kernel
theorem dX18_uses_25 : decode cX18_uses 25 = .ok (.aload_n 1, 1) := by decide +kernel
theorem dX18_uses_26 : decode cX18_uses 26 = .ok (.invokevirtual 39, 3) := by decide +kernel
theorem dX18_uses_29 : decode cX18_uses 29 = .ok (.iinc 4 1, 3) := by decide +kernel
theorem dX18_uses_32 : decode cX18_uses 32 = .ok (.goto (-21), 3) := by decide +kernel
theorem dX18_uses_35 : decode cX18_uses 35 = .ok (.aload_n 0, 1) := by decide +kernel
theorem dX18_uses_36 : decode cX18_uses 36 = .ok (.getfield 17, 3) := by decide +kernel
theorem dX18_uses_39 : decode cX18_uses 39 = .ok (.aload_n 1, 1) := by decide +kernel
theorem dX18_uses_40 : decode cX18_uses 40 = .ok (.invokevirtual 39, 3) := by decide +kernel
theorem dX18_uses_43 : decode cX18_uses 43 = .ok (.return_, 1) := by decide +kernel
theorem mw_X18_uses : MW yX18_uses (Cond.code yX18_uses cX18_uses 6 (Option.none : Option Jvm.ClassFile.FieldType)) cX18_uses 6 (Option.none : Option Jvm.ClassFile.FieldType) 1 := ⟨rfl, ⟨(lw_all_tbl q1780), rfl, (lw_all_tbl q198)⟩, rfl, ⟨by decide, by decide⟩, by decide +kernel⟩
def GR_uses (g : gC) (ts : TS) (d : Nat) (rc : Rc) : Prop := (∀ (l0 : Int) (l1 : Int), VR g ts ⟨"LazyForge$Part", "uses", "([Z)V"⟩ none 1 d l0 [vA g l1] (rc 0 l0 l1 0 0 0))
theorem gr_uses_0 {g : gC} {ts : TS} {d : Nat} {rc : Rc} (h : GR_uses g ts d rc) : (∀ (l0 : Int) (l1 : Int), VR g ts ⟨"LazyForge$Part", "uses", "([Z)V"⟩ none 1 d l0 [vA g l1] (rc 0 l0 l1 0 0 0)) := h
abbrev okb_X25_uses_11 (x : Int × Int × Int × Int) : Prop := R32 x.2.2.1 ∧ R32 x.2.2.2
abbrev lvb_X25_uses_11 (Γ : Gm) (x : Int × Int × Int × Int) : List (Nat × Value) := [(1, vA (mg Γ) x.1), (2, vA (mg Γ) x.2.1), (3, vI x.2.2.1), (4, vI x.2.2.2)]
noncomputable def b_X25_uses_11b (rc : Rc) {A : Type} (k_35 : Mo CH A) (l1 : Int) (l2 : Int) (l3 : Int) (l4 : Int) : Mo CH ((Int × Int × Int × Int) ⊕ A) :=
  if l3 ≤ l4 then
    lo k_35
  else
    bnd (ald 5 l2 l4) fun v1 =>
    bnd (rc 0 v1 l1 0 0 0) fun _ =>
    pr (.inl (l1, l2, l3, (w32 (l4 + 1))))
theorem sb_X25_uses_11b {Γ : Gm} {ts : TS} {d : Nat} {rc : Rc} (hr : GR_uses (mg Γ) ts (d + 0) rc) (o : Ok Γ "LazyForge$Made" cX25_uses 6 (Option.none : Option Jvm.ClassFile.FieldType) (d + 1)) {A : Type} {K : A → CH → Prop} (k_35 : Mo CH A) (hk_35 : Sx Γ (fun h => (h, ts)) K 35 [] [] (k_35)) (l1 : Int) (l2 : Int) (l3 : Int) (l4 : Int) (hl3 : R32 l3) (hl4 : R32 l4) : Sx Γ (fun h => (h, ts)) (KL Γ (fun h => (h, ts)) okb_X25_uses_11 K 11 (lvb_X25_uses_11 Γ) []) 11 [(1, vA (mg Γ) l1), (2, vA (mg Γ) l2), (3, vI l3), (4, vI l4)] [] (b_X25_uses_11b rc k_35 l1 l2 l3 l4) := by
  unfold b_X25_uses_11b
  refine s_iload o dX25_uses_11 3 rfl ?_
  refine s_iload_n o dX25_uses_13 rfl 2 rfl ?_
  refine s_icmp_ge (tgt := 35) o dX25_uses_14 (by decide) hl4 hl3 ?_ ?_
  · refine r_to [] [] rfl ?_
    exact s_lo hk_35
  · refine s_aload_n o dX25_uses_17 rfl 1 rfl ?_
    refine s_iload o dX25_uses_18 3 rfl ?_
    refine r_aald (kd := 5) o (by decide) rfl hl4 dX25_uses_20 (fun v1 => ?_)
    refine r_astore o dX25_uses_21 rfl ⟨(Nat.ne_of_beq_eq_false rfl), (fun _ => (vA_cat (mg Γ) l1)), ⟨(Nat.ne_of_beq_eq_false rfl), (fun _ => (vA_cat (mg Γ) l2)), ⟨(Nat.ne_of_beq_eq_false rfl), (fun _ => rfl), ⟨(Nat.ne_of_beq_eq_false rfl), (fun _ => rfl), trivial⟩⟩⟩⟩ ?_
    refine s_aload o dX25_uses_23 0 rfl ?_
    refine s_aload_n o dX25_uses_25 rfl 1 rfl ?_
    refine s_cu (d := d + 0) (As := [vA (mg Γ) l1]) (st := []) (owner := "LazyForge$Part") o (gr_uses_0 hr v1 l1) rfl (lw_all_tbl q1786) (lw_all_tbl q1766) (Or.inl q1765) ⟨by decide, by decide⟩ (by decide +kernel) wt_0 rfl dX25_uses_26 rfl (rs := fun _ => []) (fun _ => rfl) (fun _ _ => ?_)
    refine r_iinc (j := 4) o dX25_uses_29 rfl rfl [(5, vA (mg Γ) v1), (1, vA (mg Γ) l1), (2, vA (mg Γ) l2), (3, vI l3)] [0, 1, 2, 3] rfl ⟨(Nat.ne_of_beq_eq_false rfl), (fun _ => (vA_cat (mg Γ) v1)), ⟨(Nat.ne_of_beq_eq_false rfl), (fun _ => (vA_cat (mg Γ) l1)), ⟨(Nat.ne_of_beq_eq_false rfl), (fun _ => (vA_cat (mg Γ) l2)), ⟨(Nat.ne_of_beq_eq_false rfl), (fun _ => rfl), trivial⟩⟩⟩⟩ ?_
    refine s_goto (tgt := 11) o dX25_uses_32 (by decide) ?_
    refine r_to [(1, vA (mg Γ) l1), (2, vA (mg Γ) l2), (3, vI l3), (4, vI (w32 (l4 + 1)))] [2, 3, 4, 0] rfl ?_
    exact s_back (⟨hl3, (w32_R _)⟩) rfl
noncomputable def b_X25_uses_11 (rc : Rc) {A : Type} (k_35 : Mo CH A) (l1 : Int) (l2 : Int) (l3 : Int) (l4 : Int) : Mo CH A := Loop (fun x => b_X25_uses_11b rc k_35 x.1 x.2.1 x.2.2.1 x.2.2.2) (l1, l2, l3, l4)
theorem sb_X25_uses_11 {Γ : Gm} {ts : TS} {d : Nat} {rc : Rc} (hr : GR_uses (mg Γ) ts (d + 0) rc) (o : Ok Γ "LazyForge$Made" cX25_uses 6 (Option.none : Option Jvm.ClassFile.FieldType) (d + 1)) {A : Type} {K : A → CH → Prop} (k_35 : Mo CH A) (hk_35 : Sx Γ (fun h => (h, ts)) K 35 [] [] (k_35)) (l1 : Int) (l2 : Int) (l3 : Int) (l4 : Int) (hl3 : R32 l3) (hl4 : R32 l4) : Sx Γ (fun h => (h, ts)) K 11 [(1, vA (mg Γ) l1), (2, vA (mg Γ) l2), (3, vI l3), (4, vI l4)] [] (b_X25_uses_11 rc k_35 l1 l2 l3 l4) :=
  s_loop okb_X25_uses_11 (lvb_X25_uses_11 Γ) (fun x hx => sb_X25_uses_11b hr o k_35 hk_35 x.1 x.2.1 x.2.2.1 x.2.2.2 hx.1 hx.2) (x := (l1, l2, l3, l4)) ⟨hl3, hl4⟩
noncomputable def b_X25_uses (rc : Rc) (l0 : Int) (l1 : Int) : Mo CH Int :=
  bnd (gf [125] 6 l0) fun v1 =>
  bnd (aln v1) fun v2 =>
  b_X25_uses_11 rc
    (pr 0) l1 v1 v2 0
theorem sb_X25_uses (g : gC) (d : Nat) (ts : TS) (rc : Rc) (hr : GR_uses g ts (d + 0) rc) (l0 : Int) (l1 : Int) : SF g yX25_uses (Cond.code yX25_uses cX25_uses 6 (Option.none : Option Jvm.ClassFile.FieldType)) (Option.none : Option Jvm.ClassFile.FieldType) (d + 1) [vA g l0, vA g l1] (fun h => (h, ts)) (b_X25_uses rc l0 l1) := by
  refine SF.of (lv := [(0, vA g l0), (1, vA g l1)]) (by decide) (wt_A (wt_A wt_0)) rfl (by simp only [la_A, la_I, la_J, la_0]) (fun Γ hg hnm o => ?_)
  subst hg
  have o : Ok Γ "LazyForge$Made" cX25_uses 6 (Option.none : Option Jvm.ClassFile.FieldType) (d + 1) := o
  unfold b_X25_uses
  refine s_aload_n o dX25_uses_0 rfl 0 rfl ?_
  refine r_getf (vA (mg Γ)) rfl o cf_X25_fields (Or.inl (lw_all_tbl q1569)) dX25_uses_1 (fun v1 hv1 => ?_)
  refine r_astore_n o dX25_uses_4 rfl rfl ⟨(Nat.ne_of_beq_eq_false rfl), (fun _ => (vA_cat (mg Γ) l0)), ⟨(Nat.ne_of_beq_eq_false rfl), (fun _ => (vA_cat (mg Γ) l1)), trivial⟩⟩ ?_
  refine s_aload_n o dX25_uses_5 rfl 0 rfl ?_
  refine s_alen o dX25_uses_6 (fun v2 hv2 => ?_)
  refine r_istore_n o dX25_uses_7 rfl rfl ⟨(Nat.ne_of_beq_eq_false rfl), (fun _ => (vA_cat (mg Γ) v1)), ⟨(Nat.ne_of_beq_eq_false rfl), (fun _ => (vA_cat (mg Γ) l0)), ⟨(Nat.ne_of_beq_eq_false rfl), (fun _ => (vA_cat (mg Γ) l1)), trivial⟩⟩⟩ ?_
  refine s_iconst o dX25_uses_8 ?_
  refine r_istore o dX25_uses_9 rfl ⟨(Nat.ne_of_beq_eq_false rfl), (fun _ => rfl), ⟨(Nat.ne_of_beq_eq_false rfl), (fun _ => (vA_cat (mg Γ) v1)), ⟨(Nat.ne_of_beq_eq_false rfl), (fun _ => (vA_cat (mg Γ) l0)), ⟨(Nat.ne_of_beq_eq_false rfl), (fun _ => (vA_cat (mg Γ) l1)), trivial⟩⟩⟩⟩ ?_
  refine r_to [(1, vA (mg Γ) l1), (2, vA (mg Γ) v1), (3, vI v2), (4, vI 0)] [4, 2, 1, 0] rfl ?_
  refine sb_X25_uses_11 hr o _ ?_ l1 v1 v2 0 (rN hv2) (r32 rfl)
  · exact s_vret o rfl dX25_uses_35 (fun _ hh => hh)
noncomputable def b_X23_uses (rc : Rc) (l0 : Int) (l1 : Int) : Mo CH Int :=
  bnd (gf [123] 6 l0) fun v1 =>
  bnd (rc 0 v1 l1 0 0 0) fun _ =>
  bnd (gf [123] 7 l0) fun v2 =>
  bnd (rc 0 v2 l1 0 0 0) fun _ =>
  pr 0
theorem sb_X23_uses (g : gC) (d : Nat) (ts : TS) (rc : Rc) (hr : GR_uses g ts (d + 0) rc) (l0 : Int) (l1 : Int) : SF g yX23_uses (Cond.code yX23_uses cX23_uses 2 (Option.none : Option Jvm.ClassFile.FieldType)) (Option.none : Option Jvm.ClassFile.FieldType) (d + 1) [vA g l0, vA g l1] (fun h => (h, ts)) (b_X23_uses rc l0 l1) := by
  refine SF.of (lv := [(0, vA g l0), (1, vA g l1)]) (by decide) (wt_A (wt_A wt_0)) rfl (by simp only [la_A, la_I, la_J, la_0]) (fun Γ hg hnm o => ?_)
  subst hg
  have o : Ok Γ "LazyForge$Sign" cX23_uses 2 (Option.none : Option Jvm.ClassFile.FieldType) (d + 1) := o
  unfold b_X23_uses
  refine s_aload_n o dX23_uses_0 rfl 0 rfl ?_
  refine r_getf (vA (mg Γ)) rfl o cf_X23_one (Or.inl (lw_all_tbl q1526)) dX23_uses_1 (fun v1 hv1 => ?_)
  refine s_aload_n o dX23_uses_4 rfl 1 rfl ?_
  refine s_cu (d := d + 0) (As := [vA (mg Γ) l1]) (st := []) (owner := "LazyForge$Part") o (gr_uses_0 hr v1 l1) rfl (lw_all_tbl q1791) (lw_all_tbl q1766) (Or.inl q1765) ⟨by decide, by decide⟩ (by decide +kernel) wt_0 rfl dX23_uses_5 rfl (rs := fun _ => []) (fun _ => rfl) (fun _ _ => ?_)
  refine s_aload_n o dX23_uses_8 rfl 0 rfl ?_
  refine r_getf (vA (mg Γ)) rfl o cf_X23_two (Or.inl (lw_all_tbl q1527)) dX23_uses_9 (fun v2 hv2 => ?_)
  refine s_aload_n o dX23_uses_12 rfl 1 rfl ?_
  refine s_cu (d := d + 0) (As := [vA (mg Γ) l1]) (st := []) (owner := "LazyForge$Part") o (gr_uses_0 hr v2 l1) rfl (lw_all_tbl q1791) (lw_all_tbl q1766) (Or.inl q1765) ⟨by decide, by decide⟩ (by decide +kernel) wt_0 rfl dX23_uses_13 rfl (rs := fun _ => []) (fun _ => rfl) (fun _ _ => ?_)
  exact s_vret o rfl dX23_uses_16 (fun _ hh => hh)
abbrev okb_X22_uses_19 (x : Int × Int × Int × Int) : Prop := R32 x.2.2.1 ∧ R32 x.2.2.2
abbrev lvb_X22_uses_19 (Γ : Gm) (x : Int × Int × Int × Int) : List (Nat × Value) := [(1, vA (mg Γ) x.1), (2, vA (mg Γ) x.2.1), (3, vI x.2.2.1), (4, vI x.2.2.2)]
noncomputable def b_X22_uses_19b (rc : Rc) {A : Type} (k_43 : Mo CH A) (l1 : Int) (l2 : Int) (l3 : Int) (l4 : Int) : Mo CH ((Int × Int × Int × Int) ⊕ A) :=
  if l3 ≤ l4 then
    lo k_43
  else
    bnd (ald 5 l2 l4) fun v1 =>
    bnd (rc 0 v1 l1 0 0 0) fun _ =>
    pr (.inl (l1, l2, l3, (w32 (l4 + 1))))
theorem sb_X22_uses_19b {Γ : Gm} {ts : TS} {d : Nat} {rc : Rc} (hr : GR_uses (mg Γ) ts (d + 0) rc) (o : Ok Γ "LazyForge$Case" cX22_uses 6 (Option.none : Option Jvm.ClassFile.FieldType) (d + 1)) {A : Type} {K : A → CH → Prop} (k_43 : Mo CH A) (hk_43 : Sx Γ (fun h => (h, ts)) K 43 [] [] (k_43)) (l1 : Int) (l2 : Int) (l3 : Int) (l4 : Int) (hl3 : R32 l3) (hl4 : R32 l4) : Sx Γ (fun h => (h, ts)) (KL Γ (fun h => (h, ts)) okb_X22_uses_19 K 19 (lvb_X22_uses_19 Γ) []) 19 [(1, vA (mg Γ) l1), (2, vA (mg Γ) l2), (3, vI l3), (4, vI l4)] [] (b_X22_uses_19b rc k_43 l1 l2 l3 l4) := by
  unfold b_X22_uses_19b
  refine s_iload o dX22_uses_19 3 rfl ?_
  refine s_iload_n o dX22_uses_21 rfl 2 rfl ?_
  refine s_icmp_ge (tgt := 43) o dX22_uses_22 (by decide) hl4 hl3 ?_ ?_
  · refine r_to [] [] rfl ?_
    exact s_lo hk_43
  · refine s_aload_n o dX22_uses_25 rfl 1 rfl ?_
    refine s_iload o dX22_uses_26 3 rfl ?_
    refine r_aald (kd := 5) o (by decide) rfl hl4 dX22_uses_28 (fun v1 => ?_)
    refine r_astore o dX22_uses_29 rfl ⟨(Nat.ne_of_beq_eq_false rfl), (fun _ => (vA_cat (mg Γ) l1)), ⟨(Nat.ne_of_beq_eq_false rfl), (fun _ => (vA_cat (mg Γ) l2)), ⟨(Nat.ne_of_beq_eq_false rfl), (fun _ => rfl), ⟨(Nat.ne_of_beq_eq_false rfl), (fun _ => rfl), trivial⟩⟩⟩⟩ ?_
    refine s_aload o dX22_uses_31 0 rfl ?_
    refine s_aload_n o dX22_uses_33 rfl 1 rfl ?_
    refine s_cu (d := d + 0) (As := [vA (mg Γ) l1]) (st := []) (owner := "LazyForge$Part") o (gr_uses_0 hr v1 l1) rfl (lw_all_tbl q1776) (lw_all_tbl q1766) (Or.inl q1765) ⟨by decide, by decide⟩ (by decide +kernel) wt_0 rfl dX22_uses_34 rfl (rs := fun _ => []) (fun _ => rfl) (fun _ _ => ?_)
    refine r_iinc (j := 4) o dX22_uses_37 rfl rfl [(5, vA (mg Γ) v1), (1, vA (mg Γ) l1), (2, vA (mg Γ) l2), (3, vI l3)] [0, 1, 2, 3] rfl ⟨(Nat.ne_of_beq_eq_false rfl), (fun _ => (vA_cat (mg Γ) v1)), ⟨(Nat.ne_of_beq_eq_false rfl), (fun _ => (vA_cat (mg Γ) l1)), ⟨(Nat.ne_of_beq_eq_false rfl), (fun _ => (vA_cat (mg Γ) l2)), ⟨(Nat.ne_of_beq_eq_false rfl), (fun _ => rfl), trivial⟩⟩⟩⟩ ?_
    refine s_goto (tgt := 19) o dX22_uses_40 (by decide) ?_
    refine r_to [(1, vA (mg Γ) l1), (2, vA (mg Γ) l2), (3, vI l3), (4, vI (w32 (l4 + 1)))] [2, 3, 4, 0] rfl ?_
    exact s_back (⟨hl3, (w32_R _)⟩) rfl
noncomputable def b_X22_uses_19 (rc : Rc) {A : Type} (k_43 : Mo CH A) (l1 : Int) (l2 : Int) (l3 : Int) (l4 : Int) : Mo CH A := Loop (fun x => b_X22_uses_19b rc k_43 x.1 x.2.1 x.2.2.1 x.2.2.2) (l1, l2, l3, l4)
theorem sb_X22_uses_19 {Γ : Gm} {ts : TS} {d : Nat} {rc : Rc} (hr : GR_uses (mg Γ) ts (d + 0) rc) (o : Ok Γ "LazyForge$Case" cX22_uses 6 (Option.none : Option Jvm.ClassFile.FieldType) (d + 1)) {A : Type} {K : A → CH → Prop} (k_43 : Mo CH A) (hk_43 : Sx Γ (fun h => (h, ts)) K 43 [] [] (k_43)) (l1 : Int) (l2 : Int) (l3 : Int) (l4 : Int) (hl3 : R32 l3) (hl4 : R32 l4) : Sx Γ (fun h => (h, ts)) K 19 [(1, vA (mg Γ) l1), (2, vA (mg Γ) l2), (3, vI l3), (4, vI l4)] [] (b_X22_uses_19 rc k_43 l1 l2 l3 l4) :=
  s_loop okb_X22_uses_19 (lvb_X22_uses_19 Γ) (fun x hx => sb_X22_uses_19b hr o k_43 hk_43 x.1 x.2.1 x.2.2.1 x.2.2.2 hx.1 hx.2) (x := (l1, l2, l3, l4)) ⟨hl3, hl4⟩
noncomputable def b_X22_uses (rc : Rc) (l0 : Int) (l1 : Int) : Mo CH Int :=
  bnd (gf [122] 5 l0) fun v1 =>
  bnd (rc 0 v1 l1 0 0 0) fun _ =>
  bnd (gf [122] 9 l0) fun v2 =>
  bnd (aln v2) fun v3 =>
  b_X22_uses_19 rc
    (pr 0) l1 v2 v3 0
theorem sb_X22_uses (g : gC) (d : Nat) (ts : TS) (rc : Rc) (hr : GR_uses g ts (d + 0) rc) (l0 : Int) (l1 : Int) : SF g yX22_uses (Cond.code yX22_uses cX22_uses 6 (Option.none : Option Jvm.ClassFile.FieldType)) (Option.none : Option Jvm.ClassFile.FieldType) (d + 1) [vA g l0, vA g l1] (fun h => (h, ts)) (b_X22_uses rc l0 l1) := by
  refine SF.of (lv := [(0, vA g l0), (1, vA g l1)]) (by decide) (wt_A (wt_A wt_0)) rfl (by simp only [la_A, la_I, la_J, la_0]) (fun Γ hg hnm o => ?_)
  subst hg
  have o : Ok Γ "LazyForge$Case" cX22_uses 6 (Option.none : Option Jvm.ClassFile.FieldType) (d + 1) := o
  unfold b_X22_uses
  refine s_aload_n o dX22_uses_0 rfl 0 rfl ?_
  refine r_getf (vA (mg Γ)) rfl o cf_X22_of (Or.inl (lw_all_tbl q1495)) dX22_uses_1 (fun v1 hv1 => ?_)
  refine s_aload_n o dX22_uses_4 rfl 1 rfl ?_
  refine s_cu (d := d + 0) (As := [vA (mg Γ) l1]) (st := []) (owner := "LazyForge$Part") o (gr_uses_0 hr v1 l1) rfl (lw_all_tbl q1776) (lw_all_tbl q1766) (Or.inl q1765) ⟨by decide, by decide⟩ (by decide +kernel) wt_0 rfl dX22_uses_5 rfl (rs := fun _ => []) (fun _ => rfl) (fun _ _ => ?_)
  refine s_aload_n o dX22_uses_8 rfl 0 rfl ?_
  refine r_getf (vA (mg Γ)) rfl o cf_X22_parts0 (Or.inl (lw_all_tbl q1499)) dX22_uses_9 (fun v2 hv2 => ?_)
  refine r_astore_n o dX22_uses_12 rfl rfl ⟨(Nat.ne_of_beq_eq_false rfl), (fun _ => (vA_cat (mg Γ) l0)), ⟨(Nat.ne_of_beq_eq_false rfl), (fun _ => (vA_cat (mg Γ) l1)), trivial⟩⟩ ?_
  refine s_aload_n o dX22_uses_13 rfl 0 rfl ?_
  refine s_alen o dX22_uses_14 (fun v3 hv3 => ?_)
  refine r_istore_n o dX22_uses_15 rfl rfl ⟨(Nat.ne_of_beq_eq_false rfl), (fun _ => (vA_cat (mg Γ) v2)), ⟨(Nat.ne_of_beq_eq_false rfl), (fun _ => (vA_cat (mg Γ) l0)), ⟨(Nat.ne_of_beq_eq_false rfl), (fun _ => (vA_cat (mg Γ) l1)), trivial⟩⟩⟩ ?_
  refine s_iconst o dX22_uses_16 ?_
  refine r_istore o dX22_uses_17 rfl ⟨(Nat.ne_of_beq_eq_false rfl), (fun _ => rfl), ⟨(Nat.ne_of_beq_eq_false rfl), (fun _ => (vA_cat (mg Γ) v2)), ⟨(Nat.ne_of_beq_eq_false rfl), (fun _ => (vA_cat (mg Γ) l0)), ⟨(Nat.ne_of_beq_eq_false rfl), (fun _ => (vA_cat (mg Γ) l1)), trivial⟩⟩⟩⟩ ?_
  refine r_to [(1, vA (mg Γ) l1), (2, vA (mg Γ) v2), (3, vI v3), (4, vI 0)] [4, 2, 1, 0] rfl ?_
  refine sb_X22_uses_19 hr o _ ?_ l1 v2 v3 0 (rN hv3) (r32 rfl)
  · exact s_vret o rfl dX22_uses_43 (fun _ hh => hh)
abbrev okb_X21_uses_19 (x : Int × Int × Int × Int) : Prop := R32 x.2.2.1 ∧ R32 x.2.2.2
abbrev lvb_X21_uses_19 (Γ : Gm) (x : Int × Int × Int × Int) : List (Nat × Value) := [(1, vA (mg Γ) x.1), (2, vA (mg Γ) x.2.1), (3, vI x.2.2.1), (4, vI x.2.2.2)]
noncomputable def b_X21_uses_19b (rc : Rc) {A : Type} (k_43 : Mo CH A) (l1 : Int) (l2 : Int) (l3 : Int) (l4 : Int) : Mo CH ((Int × Int × Int × Int) ⊕ A) :=
  if l3 ≤ l4 then
    lo k_43
  else
    bnd (ald 5 l2 l4) fun v1 =>
    bnd (rc 0 v1 l1 0 0 0) fun _ =>
    pr (.inl (l1, l2, l3, (w32 (l4 + 1))))
theorem sb_X21_uses_19b {Γ : Gm} {ts : TS} {d : Nat} {rc : Rc} (hr : GR_uses (mg Γ) ts (d + 0) rc) (o : Ok Γ "LazyForge$Apply" cX21_uses 6 (Option.none : Option Jvm.ClassFile.FieldType) (d + 1)) {A : Type} {K : A → CH → Prop} (k_43 : Mo CH A) (hk_43 : Sx Γ (fun h => (h, ts)) K 43 [] [] (k_43)) (l1 : Int) (l2 : Int) (l3 : Int) (l4 : Int) (hl3 : R32 l3) (hl4 : R32 l4) : Sx Γ (fun h => (h, ts)) (KL Γ (fun h => (h, ts)) okb_X21_uses_19 K 19 (lvb_X21_uses_19 Γ) []) 19 [(1, vA (mg Γ) l1), (2, vA (mg Γ) l2), (3, vI l3), (4, vI l4)] [] (b_X21_uses_19b rc k_43 l1 l2 l3 l4) := by
  unfold b_X21_uses_19b
  refine s_iload o dX21_uses_19 3 rfl ?_
  refine s_iload_n o dX21_uses_21 rfl 2 rfl ?_
  refine s_icmp_ge (tgt := 43) o dX21_uses_22 (by decide) hl4 hl3 ?_ ?_
  · refine r_to [] [] rfl ?_
    exact s_lo hk_43
  · refine s_aload_n o dX21_uses_25 rfl 1 rfl ?_
    refine s_iload o dX21_uses_26 3 rfl ?_
    refine r_aald (kd := 5) o (by decide) rfl hl4 dX21_uses_28 (fun v1 => ?_)
    refine r_astore o dX21_uses_29 rfl ⟨(Nat.ne_of_beq_eq_false rfl), (fun _ => (vA_cat (mg Γ) l1)), ⟨(Nat.ne_of_beq_eq_false rfl), (fun _ => (vA_cat (mg Γ) l2)), ⟨(Nat.ne_of_beq_eq_false rfl), (fun _ => rfl), ⟨(Nat.ne_of_beq_eq_false rfl), (fun _ => rfl), trivial⟩⟩⟩⟩ ?_
    refine s_aload o dX21_uses_31 0 rfl ?_
    refine s_aload_n o dX21_uses_33 rfl 1 rfl ?_
    refine s_cu (d := d + 0) (As := [vA (mg Γ) l1]) (st := []) (owner := "LazyForge$Part") o (gr_uses_0 hr v1 l1) rfl (lw_all_tbl q1773) (lw_all_tbl q1766) (Or.inl q1765) ⟨by decide, by decide⟩ (by decide +kernel) wt_0 rfl dX21_uses_34 rfl (rs := fun _ => []) (fun _ => rfl) (fun _ _ => ?_)
    refine r_iinc (j := 4) o dX21_uses_37 rfl rfl [(5, vA (mg Γ) v1), (1, vA (mg Γ) l1), (2, vA (mg Γ) l2), (3, vI l3)] [0, 1, 2, 3] rfl ⟨(Nat.ne_of_beq_eq_false rfl), (fun _ => (vA_cat (mg Γ) v1)), ⟨(Nat.ne_of_beq_eq_false rfl), (fun _ => (vA_cat (mg Γ) l1)), ⟨(Nat.ne_of_beq_eq_false rfl), (fun _ => (vA_cat (mg Γ) l2)), ⟨(Nat.ne_of_beq_eq_false rfl), (fun _ => rfl), trivial⟩⟩⟩⟩ ?_
    refine s_goto (tgt := 19) o dX21_uses_40 (by decide) ?_
    refine r_to [(1, vA (mg Γ) l1), (2, vA (mg Γ) l2), (3, vI l3), (4, vI (w32 (l4 + 1)))] [2, 3, 4, 0] rfl ?_
    exact s_back (⟨hl3, (w32_R _)⟩) rfl
noncomputable def b_X21_uses_19 (rc : Rc) {A : Type} (k_43 : Mo CH A) (l1 : Int) (l2 : Int) (l3 : Int) (l4 : Int) : Mo CH A := Loop (fun x => b_X21_uses_19b rc k_43 x.1 x.2.1 x.2.2.1 x.2.2.2) (l1, l2, l3, l4)
theorem sb_X21_uses_19 {Γ : Gm} {ts : TS} {d : Nat} {rc : Rc} (hr : GR_uses (mg Γ) ts (d + 0) rc) (o : Ok Γ "LazyForge$Apply" cX21_uses 6 (Option.none : Option Jvm.ClassFile.FieldType) (d + 1)) {A : Type} {K : A → CH → Prop} (k_43 : Mo CH A) (hk_43 : Sx Γ (fun h => (h, ts)) K 43 [] [] (k_43)) (l1 : Int) (l2 : Int) (l3 : Int) (l4 : Int) (hl3 : R32 l3) (hl4 : R32 l4) : Sx Γ (fun h => (h, ts)) K 19 [(1, vA (mg Γ) l1), (2, vA (mg Γ) l2), (3, vI l3), (4, vI l4)] [] (b_X21_uses_19 rc k_43 l1 l2 l3 l4) :=
  s_loop okb_X21_uses_19 (lvb_X21_uses_19 Γ) (fun x hx => sb_X21_uses_19b hr o k_43 hk_43 x.1 x.2.1 x.2.2.1 x.2.2.2 hx.1 hx.2) (x := (l1, l2, l3, l4)) ⟨hl3, hl4⟩
noncomputable def b_X21_uses (rc : Rc) (l0 : Int) (l1 : Int) : Mo CH Int :=
  bnd (gf [121] 5 l0) fun v1 =>
  bnd (rc 0 v1 l1 0 0 0) fun _ =>
  bnd (gf [121] 6 l0) fun v2 =>
  bnd (aln v2) fun v3 =>
  b_X21_uses_19 rc
    (pr 0) l1 v2 v3 0
theorem sb_X21_uses (g : gC) (d : Nat) (ts : TS) (rc : Rc) (hr : GR_uses g ts (d + 0) rc) (l0 : Int) (l1 : Int) : SF g yX21_uses (Cond.code yX21_uses cX21_uses 6 (Option.none : Option Jvm.ClassFile.FieldType)) (Option.none : Option Jvm.ClassFile.FieldType) (d + 1) [vA g l0, vA g l1] (fun h => (h, ts)) (b_X21_uses rc l0 l1) := by
  refine SF.of (lv := [(0, vA g l0), (1, vA g l1)]) (by decide) (wt_A (wt_A wt_0)) rfl (by simp only [la_A, la_I, la_J, la_0]) (fun Γ hg hnm o => ?_)
  subst hg
  have o : Ok Γ "LazyForge$Apply" cX21_uses 6 (Option.none : Option Jvm.ClassFile.FieldType) (d + 1) := o
  unfold b_X21_uses
  refine s_aload_n o dX21_uses_0 rfl 0 rfl ?_
  refine r_getf (vA (mg Γ)) rfl o cf_X21_head (Or.inl (lw_all_tbl q1468)) dX21_uses_1 (fun v1 hv1 => ?_)
  refine s_aload_n o dX21_uses_4 rfl 1 rfl ?_
  refine s_cu (d := d + 0) (As := [vA (mg Γ) l1]) (st := []) (owner := "LazyForge$Part") o (gr_uses_0 hr v1 l1) rfl (lw_all_tbl q1773) (lw_all_tbl q1766) (Or.inl q1765) ⟨by decide, by decide⟩ (by decide +kernel) wt_0 rfl dX21_uses_5 rfl (rs := fun _ => []) (fun _ => rfl) (fun _ _ => ?_)
  refine s_aload_n o dX21_uses_8 rfl 0 rfl ?_
  refine r_getf (vA (mg Γ)) rfl o cf_X21_arguments (Or.inl (lw_all_tbl q1469)) dX21_uses_9 (fun v2 hv2 => ?_)
  refine r_astore_n o dX21_uses_12 rfl rfl ⟨(Nat.ne_of_beq_eq_false rfl), (fun _ => (vA_cat (mg Γ) l0)), ⟨(Nat.ne_of_beq_eq_false rfl), (fun _ => (vA_cat (mg Γ) l1)), trivial⟩⟩ ?_
  refine s_aload_n o dX21_uses_13 rfl 0 rfl ?_
  refine s_alen o dX21_uses_14 (fun v3 hv3 => ?_)
  refine r_istore_n o dX21_uses_15 rfl rfl ⟨(Nat.ne_of_beq_eq_false rfl), (fun _ => (vA_cat (mg Γ) v2)), ⟨(Nat.ne_of_beq_eq_false rfl), (fun _ => (vA_cat (mg Γ) l0)), ⟨(Nat.ne_of_beq_eq_false rfl), (fun _ => (vA_cat (mg Γ) l1)), trivial⟩⟩⟩ ?_
  refine s_iconst o dX21_uses_16 ?_
  refine r_istore o dX21_uses_17 rfl ⟨(Nat.ne_of_beq_eq_false rfl), (fun _ => rfl), ⟨(Nat.ne_of_beq_eq_false rfl), (fun _ => (vA_cat (mg Γ) v2)), ⟨(Nat.ne_of_beq_eq_false rfl), (fun _ => (vA_cat (mg Γ) l0)), ⟨(Nat.ne_of_beq_eq_false rfl), (fun _ => (vA_cat (mg Γ) l1)), trivial⟩⟩⟩⟩ ?_
  refine r_to [(1, vA (mg Γ) l1), (2, vA (mg Γ) v2), (3, vI v3), (4, vI 0)] [4, 2, 1, 0] rfl ?_
  refine sb_X21_uses_19 hr o _ ?_ l1 v2 v3 0 (rN hv3) (r32 rfl)
  · exact s_vret o rfl dX21_uses_43 (fun _ hh => hh)
abbrev okb_X18_uses_11 (x : Int × Int × Int × Int × Int) : Prop := R32 x.2.2.2.1 ∧ R32 x.2.2.2.2
abbrev lvb_X18_uses_11 (Γ : Gm) (x : Int × Int × Int × Int × Int) : List (Nat × Value) := [(0, vA (mg Γ) x.1), (1, vA (mg Γ) x.2.1), (2, vA (mg Γ) x.2.2.1), (3, vI x.2.2.2.1), (4, vI x.2.2.2.2)]
noncomputable def b_X18_uses_11b (rc : Rc) {A : Type} (k_35 : Int → Int → Mo CH A) (l0 : Int) (l1 : Int) (l2 : Int) (l3 : Int) (l4 : Int) : Mo CH ((Int × Int × Int × Int × Int) ⊕ A) :=
  if l3 ≤ l4 then
    lo (k_35 l0 l1)
  else
    bnd (ald 5 l2 l4) fun v1 =>
    bnd (rc 0 v1 l1 0 0 0) fun _ =>
    pr (.inl (l0, l1, l2, l3, (w32 (l4 + 1))))
theorem sb_X18_uses_11b {Γ : Gm} {ts : TS} {d : Nat} {rc : Rc} (hr : GR_uses (mg Γ) ts (d + 0) rc) (o : Ok Γ "LazyForge$Let" cX18_uses 6 (Option.none : Option Jvm.ClassFile.FieldType) (d + 1)) {A : Type} {K : A → CH → Prop} (k_35 : Int → Int → Mo CH A) (hk_35 : ∀ (l0 : Int) (l1 : Int), Sx Γ (fun h => (h, ts)) K 35 [(0, vA (mg Γ) l0), (1, vA (mg Γ) l1)] [] (k_35 l0 l1)) (l0 : Int) (l1 : Int) (l2 : Int) (l3 : Int) (l4 : Int) (hl3 : R32 l3) (hl4 : R32 l4) : Sx Γ (fun h => (h, ts)) (KL Γ (fun h => (h, ts)) okb_X18_uses_11 K 11 (lvb_X18_uses_11 Γ) []) 11 [(0, vA (mg Γ) l0), (1, vA (mg Γ) l1), (2, vA (mg Γ) l2), (3, vI l3), (4, vI l4)] [] (b_X18_uses_11b rc k_35 l0 l1 l2 l3 l4) := by
  unfold b_X18_uses_11b
  refine s_iload o dX18_uses_11 4 rfl ?_
  refine s_iload_n o dX18_uses_13 rfl 3 rfl ?_
  refine s_icmp_ge (tgt := 35) o dX18_uses_14 (by decide) hl4 hl3 ?_ ?_
  · refine r_to [(0, vA (mg Γ) l0), (1, vA (mg Γ) l1)] [0, 1] rfl ?_
    exact s_lo (hk_35 l0 l1)
  · refine s_aload_n o dX18_uses_17 rfl 2 rfl ?_
    refine s_iload o dX18_uses_18 4 rfl ?_
    refine r_aald (kd := 5) o (by decide) rfl hl4 dX18_uses_20 (fun v1 => ?_)
    refine r_astore o dX18_uses_21 rfl ⟨(Nat.ne_of_beq_eq_false rfl), (fun _ => (vA_cat (mg Γ) l0)), ⟨(Nat.ne_of_beq_eq_false rfl), (fun _ => (vA_cat (mg Γ) l1)), ⟨(Nat.ne_of_beq_eq_false rfl), (fun _ => (vA_cat (mg Γ) l2)), ⟨(Nat.ne_of_beq_eq_false rfl), (fun _ => rfl), ⟨(Nat.ne_of_beq_eq_false rfl), (fun _ => rfl), trivial⟩⟩⟩⟩⟩ ?_
    refine s_aload o dX18_uses_23 0 rfl ?_
    refine s_aload_n o dX18_uses_25 rfl 2 rfl ?_
    refine s_cu (d := d + 0) (As := [vA (mg Γ) l1]) (st := []) (owner := "LazyForge$Part") o (gr_uses_0 hr v1 l1) rfl (lw_all_tbl q1781) (lw_all_tbl q1766) (Or.inl q1765) ⟨by decide, by decide⟩ (by decide +kernel) wt_0 rfl dX18_uses_26 rfl (rs := fun _ => []) (fun _ => rfl) (fun _ _ => ?_)
    refine r_iinc (j := 5) o dX18_uses_29 rfl rfl [(5, vA (mg Γ) v1), (0, vA (mg Γ) l0), (1, vA (mg Γ) l1), (2, vA (mg Γ) l2), (3, vI l3)] [0, 1, 2, 3, 4] rfl ⟨(Nat.ne_of_beq_eq_false rfl), (fun _ => (vA_cat (mg Γ) v1)), ⟨(Nat.ne_of_beq_eq_false rfl), (fun _ => (vA_cat (mg Γ) l0)), ⟨(Nat.ne_of_beq_eq_false rfl), (fun _ => (vA_cat (mg Γ) l1)), ⟨(Nat.ne_of_beq_eq_false rfl), (fun _ => (vA_cat (mg Γ) l2)), ⟨(Nat.ne_of_beq_eq_false rfl), (fun _ => rfl), trivial⟩⟩⟩⟩⟩ ?_
    refine s_goto (tgt := 11) o dX18_uses_32 (by decide) ?_
    refine r_to [(0, vA (mg Γ) l0), (1, vA (mg Γ) l1), (2, vA (mg Γ) l2), (3, vI l3), (4, vI (w32 (l4 + 1)))] [2, 3, 4, 5, 0] rfl ?_
    exact s_back (⟨hl3, (w32_R _)⟩) rfl
noncomputable def b_X18_uses_11 (rc : Rc) {A : Type} (k_35 : Int → Int → Mo CH A) (l0 : Int) (l1 : Int) (l2 : Int) (l3 : Int) (l4 : Int) : Mo CH A := Loop (fun x => b_X18_uses_11b rc k_35 x.1 x.2.1 x.2.2.1 x.2.2.2.1 x.2.2.2.2) (l0, l1, l2, l3, l4)
theorem sb_X18_uses_11 {Γ : Gm} {ts : TS} {d : Nat} {rc : Rc} (hr : GR_uses (mg Γ) ts (d + 0) rc) (o : Ok Γ "LazyForge$Let" cX18_uses 6 (Option.none : Option Jvm.ClassFile.FieldType) (d + 1)) {A : Type} {K : A → CH → Prop} (k_35 : Int → Int → Mo CH A) (hk_35 : ∀ (l0 : Int) (l1 : Int), Sx Γ (fun h => (h, ts)) K 35 [(0, vA (mg Γ) l0), (1, vA (mg Γ) l1)] [] (k_35 l0 l1)) (l0 : Int) (l1 : Int) (l2 : Int) (l3 : Int) (l4 : Int) (hl3 : R32 l3) (hl4 : R32 l4) : Sx Γ (fun h => (h, ts)) K 11 [(0, vA (mg Γ) l0), (1, vA (mg Γ) l1), (2, vA (mg Γ) l2), (3, vI l3), (4, vI l4)] [] (b_X18_uses_11 rc k_35 l0 l1 l2 l3 l4) :=
  s_loop okb_X18_uses_11 (lvb_X18_uses_11 Γ) (fun x hx => sb_X18_uses_11b hr o k_35 hk_35 x.1 x.2.1 x.2.2.1 x.2.2.2.1 x.2.2.2.2 hx.1 hx.2) (x := (l0, l1, l2, l3, l4)) ⟨hl3, hl4⟩
noncomputable def b_X18_uses (rc : Rc) (l0 : Int) (l1 : Int) : Mo CH Int :=
  bnd (gf [118] 6 l0) fun v1 =>
  bnd (aln v1) fun v2 =>
  b_X18_uses_11 rc
    (fun v3 v4 => bnd (gf [118] 7 v3) fun v5 =>
  bnd (rc 0 v5 v4 0 0 0) fun _ =>
  pr 0) l0 l1 v1 v2 0
theorem sb_X18_uses (g : gC) (d : Nat) (ts : TS) (rc : Rc) (hr : GR_uses g ts (d + 0) rc) (l0 : Int) (l1 : Int) : SF g yX18_uses (Cond.code yX18_uses cX18_uses 6 (Option.none : Option Jvm.ClassFile.FieldType)) (Option.none : Option Jvm.ClassFile.FieldType) (d + 1) [vA g l0, vA g l1] (fun h => (h, ts)) (b_X18_uses rc l0 l1) := by
  refine SF.of (lv := [(0, vA g l0), (1, vA g l1)]) (by decide) (wt_A (wt_A wt_0)) rfl (by simp only [la_A, la_I, la_J, la_0]) (fun Γ hg hnm o => ?_)
  subst hg
  have o : Ok Γ "LazyForge$Let" cX18_uses 6 (Option.none : Option Jvm.ClassFile.FieldType) (d + 1) := o
  unfold b_X18_uses
  refine s_aload_n o dX18_uses_0 rfl 0 rfl ?_
  refine r_getf (vA (mg Γ)) rfl o cf_X18_bound (Or.inl (lw_all_tbl q1336)) dX18_uses_1 (fun v1 hv1 => ?_)
  refine r_astore_n o dX18_uses_4 rfl rfl ⟨(Nat.ne_of_beq_eq_false rfl), (fun _ => (vA_cat (mg Γ) l0)), ⟨(Nat.ne_of_beq_eq_false rfl), (fun _ => (vA_cat (mg Γ) l1)), trivial⟩⟩ ?_
  refine s_aload_n o dX18_uses_5 rfl 0 rfl ?_
  refine s_alen o dX18_uses_6 (fun v2 hv2 => ?_)
  refine r_istore_n o dX18_uses_7 rfl rfl ⟨(Nat.ne_of_beq_eq_false rfl), (fun _ => (vA_cat (mg Γ) v1)), ⟨(Nat.ne_of_beq_eq_false rfl), (fun _ => (vA_cat (mg Γ) l0)), ⟨(Nat.ne_of_beq_eq_false rfl), (fun _ => (vA_cat (mg Γ) l1)), trivial⟩⟩⟩ ?_
  refine s_iconst o dX18_uses_8 ?_
  refine r_istore o dX18_uses_9 rfl ⟨(Nat.ne_of_beq_eq_false rfl), (fun _ => rfl), ⟨(Nat.ne_of_beq_eq_false rfl), (fun _ => (vA_cat (mg Γ) v1)), ⟨(Nat.ne_of_beq_eq_false rfl), (fun _ => (vA_cat (mg Γ) l0)), ⟨(Nat.ne_of_beq_eq_false rfl), (fun _ => (vA_cat (mg Γ) l1)), trivial⟩⟩⟩⟩ ?_
  refine r_to [(0, vA (mg Γ) l0), (1, vA (mg Γ) l1), (2, vA (mg Γ) v1), (3, vI v2), (4, vI 0)] [3, 4, 2, 1, 0] rfl ?_
  refine sb_X18_uses_11 hr o _ ?_ l0 l1 v1 v2 0 (rN hv2) (r32 rfl)
  · intro v3 v4
    refine s_aload_n o dX18_uses_35 rfl 0 rfl ?_
    refine r_getf (vA (mg Γ)) rfl o cf_X18_body (Or.inl (lw_all_tbl q1337)) dX18_uses_36 (fun v5 hv5 => ?_)
    refine s_aload_n o dX18_uses_39 rfl 1 rfl ?_
    refine s_cu (d := d + 0) (As := [vA (mg Γ) v4]) (st := []) (owner := "LazyForge$Part") o (gr_uses_0 hr v5 v4) rfl (lw_all_tbl q1781) (lw_all_tbl q1766) (Or.inl q1765) ⟨by decide, by decide⟩ (by decide +kernel) wt_0 rfl dX18_uses_40 rfl (rs := fun _ => []) (fun _ => rfl) (fun _ _ => ?_)
    exact s_vret o rfl dX18_uses_43 (fun _ hh => hh)
noncomputable def v_X4_uses_b (rc : Rc) (l0 : Int) (l1 : Int) : Mo CH Int := dsp l0 [([106, 107, 108, 109, 110], c_X5_uses l0 l1), ([118], b_X18_uses rc l0 l1), ([119], c_X19_uses l0 l1), ([120], c_X20_uses l0 l1), ([121], b_X21_uses rc l0 l1), ([122], b_X22_uses rc l0 l1), ([123], b_X23_uses rc l0 l1), ([124], c_X24_uses l0 l1), ([125], b_X25_uses rc l0 l1), ([126], c_X26_uses l0 l1)]
theorem sv_X4_uses_b (g : gC) (d : Nat) (ts : TS) (rc : Rc) (hr : GR_uses g ts (d + 0) rc) (l0 : Int) (l1 : Int) : VR g ts ⟨"LazyForge$Part", "uses", "([Z)V"⟩ none 1 (d + 1) l0 [vA g l1] (v_X4_uses_b rc l0 l1) := (VR.cons (x0 := ⟨"LazyForge$Part", "uses", "([Z)V"⟩) ⟨⟨6, _, rfl, rfl, (lw_all_tbl q1804)⟩, ⟨⟨7, _, rfl, rfl, (lw_all_tbl q1798)⟩, ⟨⟨8, _, rfl, rfl, (lw_all_tbl q1767)⟩, ⟨⟨9, _, rfl, rfl, (lw_all_tbl q1795)⟩, ⟨⟨10, _, rfl, rfl, (lw_all_tbl q1797)⟩, trivial⟩⟩⟩⟩⟩ (lw_all_tbl q1768) mw_X5_uses (sc_X5_uses g (d + 1) ts l0 l1) (VR.cons (x0 := ⟨"LazyForge$Part", "uses", "([Z)V"⟩) ⟨⟨18, _, rfl, rfl, (lw_all_tbl q1799)⟩, trivial⟩ (lw_all_tbl q1779) mw_X18_uses (sb_X18_uses g d ts rc hr l0 l1) (VR.cons (x0 := ⟨"LazyForge$Part", "uses", "([Z)V"⟩) ⟨⟨19, _, rfl, rfl, (lw_all_tbl q1802)⟩, trivial⟩ (lw_all_tbl q1787) mw_X19_uses (sc_X19_uses g (d + 1) ts l0 l1) (VR.cons (x0 := ⟨"LazyForge$Part", "uses", "([Z)V"⟩) ⟨⟨20, _, rfl, rfl, (lw_all_tbl q1805)⟩, trivial⟩ (lw_all_tbl q1792) mw_X20_uses (sc_X20_uses g (d + 1) ts l0 l1) (VR.cons (x0 := ⟨"LazyForge$Part", "uses", "([Z)V"⟩) ⟨⟨21, _, rfl, rfl, (lw_all_tbl q1770)⟩, trivial⟩ (lw_all_tbl q1771) mw_X21_uses (sb_X21_uses g d ts rc hr l0 l1) (VR.cons (x0 := ⟨"LazyForge$Part", "uses", "([Z)V"⟩) ⟨⟨22, _, rfl, rfl, (lw_all_tbl q1794)⟩, trivial⟩ (lw_all_tbl q1774) mw_X22_uses (sb_X22_uses g d ts rc hr l0 l1) (VR.cons (x0 := ⟨"LazyForge$Part", "uses", "([Z)V"⟩) ⟨⟨23, _, rfl, rfl, (lw_all_tbl q1803)⟩, trivial⟩ (lw_all_tbl q1789) mw_X23_uses (sb_X23_uses g d ts rc hr l0 l1) (VR.cons (x0 := ⟨"LazyForge$Part", "uses", "([Z)V"⟩) ⟨⟨24, _, rfl, rfl, (lw_all_tbl q1800)⟩, trivial⟩ (lw_all_tbl q1782) mw_X24_uses (sc_X24_uses g (d + 1) ts l0 l1) (VR.cons (x0 := ⟨"LazyForge$Part", "uses", "([Z)V"⟩) ⟨⟨25, _, rfl, rfl, (lw_all_tbl q1801)⟩, trivial⟩ (lw_all_tbl q1784) mw_X25_uses (sb_X25_uses g d ts rc hr l0 l1) (VR.cons (x0 := ⟨"LazyForge$Part", "uses", "([Z)V"⟩) ⟨⟨26, _, rfl, rfl, (lw_all_tbl q1796)⟩, trivial⟩ (lw_all_tbl q1777) mw_X26_uses (sc_X26_uses g (d + 1) ts l0 l1) VR.nil))))))))))
noncomputable def G_uses (rc : Rc) : Rc := fun j a0 a1 a2 a3 a4 => match j with
  | 0 => v_X4_uses_b rc a0 a1
  | _ => no
noncomputable def R_uses : Nat → Rc
  | 0 => fun _ _ _ _ _ _ => no
  | n + 1 => G_uses (R_uses n)
theorem G_uses_ok (g : gC) (ts : TS) (d : Nat) (rc : Rc) (hr : GR_uses g ts (d + 0) rc) : GR_uses g ts (d + 1) (G_uses rc) := (fun l0 l1 => sv_X4_uses_b g d ts rc hr l0 l1)
theorem R_uses_ok (g : gC) (ts : TS) : ∀ n d, GR_uses g ts (d + 0 + n) (R_uses n)
  | 0, d => (fun _ _ _ _ _ e => by cases e)
  | n + 1, d => by
    have h := R_uses_ok g ts n d
    rw [show d + 0 + n = (d + n) + 0 by omega] at h
    have h := G_uses_ok g ts _ _ h
    rw [show d + 0 + (n + 1) = (d + n) + 1 by omega]
    exact h
noncomputable def v_X4_uses (l0 : Int) (l1 : Int) : Mo CH Int := R_uses 200 0 l0 l1 0 0 0
theorem sv_X4_uses (g : gC) (d : Nat) (ts : TS) (l0 : Int) (l1 : Int) : VR g ts ⟨"LazyForge$Part", "uses", "([Z)V"⟩ none 1 (d + 200) l0 [vA g l1] (v_X4_uses l0 l1) := by
  have h := R_uses_ok g ts 200 d
  rw [Nat.add_assoc] at h
  exact gr_uses_0 h l0 l1
theorem dX4_mayWait_0 : decode cX4_mayWait 0 = .ok (.aload_n 1, 1) := by decide +kernel
theorem dX4_mayWait_1 : decode cX4_mayWait 1 = .ok (.getfield 35, 3) := by decide +kernel
theorem dX4_mayWait_4 : decode cX4_mayWait 4 = .ok (.astore_n 3, 1) := by decide +kernel
theorem dX4_mayWait_5 : decode cX4_mayWait 5 = .ok (.iconst 0, 1) := by decide +kernel
theorem dX4_mayWait_6 : decode cX4_mayWait 6 = .ok (.istore 4, 2) := by decide +kernel
theorem dX4_mayWait_8 : decode cX4_mayWait 8 = .ok (.iload 4, 2) := by decide +kernel
theorem dX4_mayWait_10 : decode cX4_mayWait 10 = .ok (.aload_n 3, 1) := by decide +kernel
theorem dX4_mayWait_11 : decode cX4_mayWait 11 = .ok (.arraylength, 1) := by decide +kernel
theorem dX4_mayWait_12 : decode cX4_mayWait 12 = .ok (.if_icmp .ge 14, 3) := by decide +kernel
theorem dX4_mayWait_15 : decode cX4_mayWait 15 = .ok (.aload_n 3, 1) := by decide +kernel
theorem dX4_mayWait_16 : decode cX4_mayWait 16 = .ok (.iload 4, 2) := by decide +kernel
theorem dX4_mayWait_18 : decode cX4_mayWait 18 = .ok (.iconst 0, 1) := by decide +kernel
theorem dX4_mayWait_19 : decode cX4_mayWait 19 = .ok (.bastore, 1) := by decide +kernel
theorem dX4_mayWait_20 : decode cX4_mayWait 20 = .ok (.iinc 4 1, 3) := by decide +kernel
theorem dX4_mayWait_23 : decode cX4_mayWait 23 = .ok (.goto (-15), 3) := by decide +kernel
theorem dX4_mayWait_26 : decode cX4_mayWait 26 = .ok (.aload_n 0, 1) := by decide +kernel
theorem dX4_mayWait_27 : decode cX4_mayWait 27 = .ok (.aload_n 3, 1) := by decide +kernel
theorem dX4_mayWait_28 : decode cX4_mayWait 28 = .ok (.invokevirtual 41, 3) := by decide +kernel
theorem dX4_mayWait_31 : decode cX4_mayWait 31 = .ok (.aload_n 0, 1) := by decide +kernel
theorem dX4_mayWait_32 : decode cX4_mayWait 32 = .ok (.aload_n 3, 1) := by decide +kernel
theorem dX4_mayWait_33 : decode cX4_mayWait 33 = .ok (.invokevirtual 44, 3) := by decide +kernel
theorem dX4_mayWait_36 : decode cX4_mayWait 36 = .ok (.iconst 0, 1) := by decide +kernel
theorem dX4_mayWait_37 : decode cX4_mayWait 37 = .ok (.istore 4, 2) := by decide +kernel
theorem dX4_mayWait_39 : decode cX4_mayWait 39 = .ok (.iconst 0, 1) := by decide +kernel
theorem dX4_mayWait_40 : decode cX4_mayWait 40 = .ok (.istore 5, 2) := by decide +kernel
theorem dX4_mayWait_42 : decode cX4_mayWait 42 = .ok (.iload 5, 2) := by decide +kernel
theorem dX4_mayWait_44 : decode cX4_mayWait 44 = .ok (.aload_n 3, 1) := by decide +kernel
theorem dX4_mayWait_45 : decode cX4_mayWait 45 = .ok (.arraylength, 1) := by decide +kernel
theorem dX4_mayWait_46 : decode cX4_mayWait 46 = .ok (.if_icmp .ge 26, 3) := by decide +kernel
theorem dX4_mayWait_49 : decode cX4_mayWait 49 = .ok (.iload 4, 2) := by decide +kernel
theorem dX4_mayWait_51 : decode cX4_mayWait 51 = .ok (.aload_n 3, 1) := by decide +kernel
theorem dX4_mayWait_52 : decode cX4_mayWait 52 = .ok (.iload 5, 2) := by decide +kernel
theorem dX4_mayWait_54 : decode cX4_mayWait 54 = .ok (.baload, 1) := by decide +kernel
theorem dX4_mayWait_55 : decode cX4_mayWait 55 = .ok (.ifCond .eq 7, 3) := by decide +kernel
theorem dX4_mayWait_58 : decode cX4_mayWait 58 = .ok (.iconst 1, 1) := by decide +kernel
theorem dX4_mayWait_59 : decode cX4_mayWait 59 = .ok (.goto 4, 3) := by decide +kernel
theorem dX4_mayWait_62 : decode cX4_mayWait 62 = .ok (.iconst 0, 1) := by decide +kernel
theorem dX4_mayWait_63 : decode cX4_mayWait 63 = .ok (.iadd, 1) := by decide +kernel
theorem dX4_mayWait_64 : decode cX4_mayWait 64 = .ok (.istore 4, 2) := by decide +kernel
theorem dX4_mayWait_66 : decode cX4_mayWait 66 = .ok (.iinc 5 1, 3) := by decide +kernel
theorem dX4_mayWait_69 : decode cX4_mayWait 69 = .ok (.goto (-27), 3) := by decide +kernel
theorem dX4_mayWait_72 : decode cX4_mayWait 72 = .ok (.aload_n 0, 1) := by decide +kernel
theorem dX4_mayWait_73 : decode cX4_mayWait 73 = .ok (.iload 4, 2) := by decide +kernel
theorem dX4_mayWait_75 : decode cX4_mayWait 75 = .ok (.newarray .int, 2) := by decide +kernel
theorem dX4_mayWait_77 : decode cX4_mayWait 77 = .ok (.putfield 47, 3) := by decide +kernel
theorem dX4_mayWait_80 : decode cX4_mayWait 80 = .ok (.iconst 0, 1) := by decide +kernel
theorem dX4_mayWait_81 : decode cX4_mayWait 81 = .ok (.istore 4, 2) := by decide +kernel
theorem dX4_mayWait_83 : decode cX4_mayWait 83 = .ok (.iconst 0, 1) := by decide +kernel
theorem dX4_mayWait_84 : decode cX4_mayWait 84 = .ok (.istore 5, 2) := by decide +kernel
theorem dX4_mayWait_86 : decode cX4_mayWait 86 = .ok (.iload 5, 2) := by decide +kernel
theorem dX4_mayWait_88 : decode cX4_mayWait 88 = .ok (.aload_n 3, 1) := by decide +kernel
theorem dX4_mayWait_89 : decode cX4_mayWait 89 = .ok (.arraylength, 1) := by decide +kernel
theorem dX4_mayWait_90 : decode cX4_mayWait 90 = .ok (.if_icmp .ge 31, 3) := by decide +kernel
theorem dX4_mayWait_93 : decode cX4_mayWait 93 = .ok (.aload_n 3, 1) := by decide +kernel
theorem dX4_mayWait_94 : decode cX4_mayWait 94 = .ok (.iload 5, 2) := by decide +kernel
theorem dX4_mayWait_96 : decode cX4_mayWait 96 = .ok (.baload, 1) := by decide +kernel
theorem dX4_mayWait_97 : decode cX4_mayWait 97 = .ok (.ifCond .ne 6, 3) := by decide +kernel
theorem dX4_mayWait_100 : decode cX4_mayWait 100 = .ok (.goto 15, 3) := by decide +kernel
theorem dX4_mayWait_103 : decode cX4_mayWait 103 = .ok (.aload_n 0, 1) := by decide +kernel
theorem dX4_mayWait_104 : decode cX4_mayWait 104 = .ok (.getfield 47, 3) := by decide +kernel
theorem dX4_mayWait_107 : decode cX4_mayWait 107 = .ok (.iload 4, 2) := by decide +kernel
theorem dX4_mayWait_109 : decode cX4_mayWait 109 = .ok (.iload 5, 2) := by decide +kernel
theorem dX4_mayWait_111 : decode cX4_mayWait 111 = .ok (.iastore, 1) := by decide +kernel
theorem dX4_mayWait_112 : decode cX4_mayWait 112 = .ok (.iinc 4 1, 3) := by decide +kernel
theorem dX4_mayWait_115 : decode cX4_mayWait 115 = .ok (.iinc 5 1, 3) := by decide +kernel
theorem dX4_mayWait_118 : decode cX4_mayWait 118 = .ok (.goto (-32), 3) := by decide +kernel
theorem dX4_mayWait_121 : decode cX4_mayWait 121 = .ok (.aload_n 0, 1) := by decide +kernel
theorem dX4_mayWait_122 : decode cX4_mayWait 122 = .ok (.aload_n 1, 1) := by decide +kernel
theorem dX4_mayWait_123 : decode cX4_mayWait 123 = .ok (.getfield 51, 3) := by decide +kernel
theorem dX4_mayWait_126 : decode cX4_mayWait 126 = .ok (.invokevirtual 55, 3) := by decide +kernel
theorem dX4_mayWait_129 : decode cX4_mayWait 129 = .ok (.putfield 18, 3) := by decide +kernel
theorem dX4_mayWait_132 : decode cX4_mayWait 132 = .ok (.aload_n 1, 1) := by decide +kernel
theorem dX4_mayWait_133 : decode cX4_mayWait 133 = .ok (.getfield 51, 3) := by decide +kernel
theorem dX4_mayWait_136 : decode cX4_mayWait 136 = .ok (.aload_n 0, 1) := by decide +kernel
theorem dX4_mayWait_137 : decode cX4_mayWait 137 = .ok (.invokevirtual 61, 3) := by decide +kernel
theorem dX4_mayWait_140 : decode cX4_mayWait 140 = .ok (.pop, 1) := by decide +kernel
theorem dX4_mayWait_141 : decode cX4_mayWait 141 = .ok (.aload_n 0, 1) := by decide +kernel
theorem dX4_mayWait_142 : decode cX4_mayWait 142 = .ok (.aload_n 2, 1) := by decide +kernel
theorem dX4_mayWait_143 : decode cX4_mayWait 143 = .ok (.putfield 65, 3) := by decide +kernel
theorem dX4_mayWait_146 : decode cX4_mayWait 146 = .ok (.return_, 1) := by decide +kernel
theorem mw_X4_mayWait : MW yX4_mayWait (Cond.code yX4_mayWait cX4_mayWait 6 (Option.none : Option Jvm.ClassFile.FieldType)) cX4_mayWait 6 (Option.none : Option Jvm.ClassFile.FieldType) 2 := ⟨rfl, ⟨(lw_all_tbl q1763), rfl, (lw_all_tbl q166)⟩, rfl, ⟨by decide, by decide⟩, by decide +kernel⟩
abbrev okc_X4_mayWait_8 (x : Int × Int × Int × Int × Int) : Prop := R32 x.2.2.2.2
abbrev lvc_X4_mayWait_8 (Γ : Gm) (x : Int × Int × Int × Int × Int) : List (Nat × Value) := [(0, vA (mg Γ) x.1), (1, vA (mg Γ) x.2.1), (2, vA (mg Γ) x.2.2.1), (3, vA (mg Γ) x.2.2.2.1), (4, vI x.2.2.2.2)]
noncomputable def c_X4_mayWait_8b {A : Type} (k_26 : Int → Int → Int → Int → Mo CH A) (l0 : Int) (l1 : Int) (l2 : Int) (l3 : Int) (l4 : Int) : Mo CH ((Int × Int × Int × Int × Int) ⊕ A) :=
  bnd (aln l3) fun v1 =>
  if v1 ≤ l4 then
    lo (k_26 l0 l1 l2 l3)
  else
    bnd (ast 3 l3 l4 0) fun _ =>
    pr (.inl (l0, l1, l2, l3, (w32 (l4 + 1))))
theorem sc_X4_mayWait_8b {Γ : Gm} {ts : TS} {d : Nat} (o : Ok Γ "LazyForge$Part" cX4_mayWait 6 (Option.none : Option Jvm.ClassFile.FieldType) (d + 201)) {A : Type} {K : A → CH → Prop} (k_26 : Int → Int → Int → Int → Mo CH A) (hk_26 : ∀ (l0 : Int) (l1 : Int) (l2 : Int) (l3 : Int), Sx Γ (fun h => (h, ts)) K 26 [(0, vA (mg Γ) l0), (1, vA (mg Γ) l1), (2, vA (mg Γ) l2), (3, vA (mg Γ) l3)] [] (k_26 l0 l1 l2 l3)) (l0 : Int) (l1 : Int) (l2 : Int) (l3 : Int) (l4 : Int) (hl4 : R32 l4) : Sx Γ (fun h => (h, ts)) (KL Γ (fun h => (h, ts)) okc_X4_mayWait_8 K 8 (lvc_X4_mayWait_8 Γ) []) 8 [(0, vA (mg Γ) l0), (1, vA (mg Γ) l1), (2, vA (mg Γ) l2), (3, vA (mg Γ) l3), (4, vI l4)] [] (c_X4_mayWait_8b k_26 l0 l1 l2 l3 l4) := by
  unfold c_X4_mayWait_8b
  refine s_iload o dX4_mayWait_8 4 rfl ?_
  refine s_aload_n o dX4_mayWait_10 rfl 3 rfl ?_
  refine s_alen o dX4_mayWait_11 (fun v1 hv1 => ?_)
  refine s_icmp_ge (tgt := 26) o dX4_mayWait_12 (by decide) hl4 (rN hv1) ?_ ?_
  · refine r_to [(0, vA (mg Γ) l0), (1, vA (mg Γ) l1), (2, vA (mg Γ) l2), (3, vA (mg Γ) l3)] [0, 1, 2, 3] rfl ?_
    exact s_lo (hk_26 l0 l1 l2 l3)
  · refine s_aload_n o dX4_mayWait_15 rfl 3 rfl ?_
    refine s_iload o dX4_mayWait_16 4 rfl ?_
    refine s_iconst o dX4_mayWait_18 ?_
    refine r_zast o hl4 (Or.inl rfl) dX4_mayWait_19 ?_
    refine r_iinc (j := 4) o dX4_mayWait_20 rfl rfl [(0, vA (mg Γ) l0), (1, vA (mg Γ) l1), (2, vA (mg Γ) l2), (3, vA (mg Γ) l3)] [0, 1, 2, 3] rfl ⟨(Nat.ne_of_beq_eq_false rfl), (fun _ => (vA_cat (mg Γ) l0)), ⟨(Nat.ne_of_beq_eq_false rfl), (fun _ => (vA_cat (mg Γ) l1)), ⟨(Nat.ne_of_beq_eq_false rfl), (fun _ => (vA_cat (mg Γ) l2)), ⟨(Nat.ne_of_beq_eq_false rfl), (fun _ => (vA_cat (mg Γ) l3)), trivial⟩⟩⟩⟩ ?_
    refine s_goto (tgt := 8) o dX4_mayWait_23 (by decide) ?_
    refine r_to [(0, vA (mg Γ) l0), (1, vA (mg Γ) l1), (2, vA (mg Γ) l2), (3, vA (mg Γ) l3), (4, vI (w32 (l4 + 1)))] [1, 2, 3, 4, 0] rfl ?_
    exact s_back (w32_R _) rfl
noncomputable def c_X4_mayWait_8 {A : Type} (k_26 : Int → Int → Int → Int → Mo CH A) (l0 : Int) (l1 : Int) (l2 : Int) (l3 : Int) (l4 : Int) : Mo CH A := Loop (fun x => c_X4_mayWait_8b k_26 x.1 x.2.1 x.2.2.1 x.2.2.2.1 x.2.2.2.2) (l0, l1, l2, l3, l4)
theorem sc_X4_mayWait_8 {Γ : Gm} {ts : TS} {d : Nat} (o : Ok Γ "LazyForge$Part" cX4_mayWait 6 (Option.none : Option Jvm.ClassFile.FieldType) (d + 201)) {A : Type} {K : A → CH → Prop} (k_26 : Int → Int → Int → Int → Mo CH A) (hk_26 : ∀ (l0 : Int) (l1 : Int) (l2 : Int) (l3 : Int), Sx Γ (fun h => (h, ts)) K 26 [(0, vA (mg Γ) l0), (1, vA (mg Γ) l1), (2, vA (mg Γ) l2), (3, vA (mg Γ) l3)] [] (k_26 l0 l1 l2 l3)) (l0 : Int) (l1 : Int) (l2 : Int) (l3 : Int) (l4 : Int) (hl4 : R32 l4) : Sx Γ (fun h => (h, ts)) K 8 [(0, vA (mg Γ) l0), (1, vA (mg Γ) l1), (2, vA (mg Γ) l2), (3, vA (mg Γ) l3), (4, vI l4)] [] (c_X4_mayWait_8 k_26 l0 l1 l2 l3 l4) :=
  s_loop okc_X4_mayWait_8 (lvc_X4_mayWait_8 Γ) (fun x hx => sc_X4_mayWait_8b o k_26 hk_26 x.1 x.2.1 x.2.2.1 x.2.2.2.1 x.2.2.2.2 hx) (x := (l0, l1, l2, l3, l4)) hl4
abbrev okc_X4_mayWait_42 (x : Int × Int × Int × Int × Int × Int) : Prop := R32 x.2.2.2.2.1 ∧ R32 x.2.2.2.2.2
abbrev lvc_X4_mayWait_42 (Γ : Gm) (x : Int × Int × Int × Int × Int × Int) : List (Nat × Value) := [(0, vA (mg Γ) x.1), (1, vA (mg Γ) x.2.1), (2, vA (mg Γ) x.2.2.1), (3, vA (mg Γ) x.2.2.2.1), (4, vI x.2.2.2.2.1), (5, vI x.2.2.2.2.2)]
noncomputable def c_X4_mayWait_63 {A : Type} (k_72 : Int → Int → Int → Int → Int → Mo CH A) (l0 : Int) (l1 : Int) (l2 : Int) (l3 : Int) (l5 : Int) (k0 : Int) (k1 : Int) : Mo CH ((Int × Int × Int × Int × Int × Int) ⊕ A) :=
  pr (.inl (l0, l1, l2, l3, (w32 (k1 + k0)), (w32 (l5 + 1))))
theorem sc_X4_mayWait_63 {Γ : Gm} {ts : TS} {d : Nat} (o : Ok Γ "LazyForge$Part" cX4_mayWait 6 (Option.none : Option Jvm.ClassFile.FieldType) (d + 201)) {A : Type} {K : A → CH → Prop}  (k_72 : Int → Int → Int → Int → Int → Mo CH A) (hk_72 : ∀ (l0 : Int) (l1 : Int) (l2 : Int) (l3 : Int) (l4 : Int), R32 l4 → Sx Γ (fun h => (h, ts)) K 72 [(0, vA (mg Γ) l0), (1, vA (mg Γ) l1), (2, vA (mg Γ) l2), (3, vA (mg Γ) l3), (4, vI l4)] [] (k_72 l0 l1 l2 l3 l4)) (l0 : Int) (l1 : Int) (l2 : Int) (l3 : Int) (l5 : Int) (k0 : Int) (k1 : Int) (hl5 : R32 l5) (hk0 : rg .boolean k0) (hk1 : R32 k1) : Sx Γ (fun h => (h, ts)) (KL Γ (fun h => (h, ts)) okc_X4_mayWait_42 K 42 (lvc_X4_mayWait_42 Γ) []) 63 [(0, vA (mg Γ) l0), (1, vA (mg Γ) l1), (2, vA (mg Γ) l2), (3, vA (mg Γ) l3), (5, vI l5)] [vI k0, vI k1] (c_X4_mayWait_63 k_72 l0 l1 l2 l3 l5 k0 k1) := by
  unfold c_X4_mayWait_63
  refine s_iadd o dX4_mayWait_63 ?_
  refine r_istore o dX4_mayWait_64 rfl ⟨(Nat.ne_of_beq_eq_false rfl), (fun _ => (vA_cat (mg Γ) l0)), ⟨(Nat.ne_of_beq_eq_false rfl), (fun _ => (vA_cat (mg Γ) l1)), ⟨(Nat.ne_of_beq_eq_false rfl), (fun _ => (vA_cat (mg Γ) l2)), ⟨(Nat.ne_of_beq_eq_false rfl), (fun _ => (vA_cat (mg Γ) l3)), ⟨(Nat.ne_of_beq_eq_false rfl), (fun _ => rfl), trivial⟩⟩⟩⟩⟩ ?_
  refine r_iinc (j := 5) o dX4_mayWait_66 rfl rfl [(4, vI (w32 (k1 + k0))), (0, vA (mg Γ) l0), (1, vA (mg Γ) l1), (2, vA (mg Γ) l2), (3, vA (mg Γ) l3)] [0, 1, 2, 3, 4] rfl ⟨(Nat.ne_of_beq_eq_false rfl), (fun _ => rfl), ⟨(Nat.ne_of_beq_eq_false rfl), (fun _ => (vA_cat (mg Γ) l0)), ⟨(Nat.ne_of_beq_eq_false rfl), (fun _ => (vA_cat (mg Γ) l1)), ⟨(Nat.ne_of_beq_eq_false rfl), (fun _ => (vA_cat (mg Γ) l2)), ⟨(Nat.ne_of_beq_eq_false rfl), (fun _ => (vA_cat (mg Γ) l3)), trivial⟩⟩⟩⟩⟩ ?_
  refine s_goto (tgt := 42) o dX4_mayWait_69 (by decide) ?_
  refine r_to [(0, vA (mg Γ) l0), (1, vA (mg Γ) l1), (2, vA (mg Γ) l2), (3, vA (mg Γ) l3), (4, vI (w32 (k1 + k0))), (5, vI (w32 (l5 + 1)))] [2, 3, 4, 5, 1, 0] rfl ?_
  exact s_back (⟨(w32_R _), (w32_R _)⟩) rfl
noncomputable def c_X4_mayWait_42b {A : Type} (k_72 : Int → Int → Int → Int → Int → Mo CH A) (l0 : Int) (l1 : Int) (l2 : Int) (l3 : Int) (l4 : Int) (l5 : Int) : Mo CH ((Int × Int × Int × Int × Int × Int) ⊕ A) :=
  bnd (aln l3) fun v1 =>
  if v1 ≤ l5 then
    lo (k_72 l0 l1 l2 l3 l4)
  else
    bnd (ald 3 l3 l5) fun v2 =>
    if v2 = 0 then
      c_X4_mayWait_63 k_72 l0 l1 l2 l3 l5 0 l4
    else
      c_X4_mayWait_63 k_72 l0 l1 l2 l3 l5 1 l4
theorem sc_X4_mayWait_42b {Γ : Gm} {ts : TS} {d : Nat} (o : Ok Γ "LazyForge$Part" cX4_mayWait 6 (Option.none : Option Jvm.ClassFile.FieldType) (d + 201)) {A : Type} {K : A → CH → Prop} (k_72 : Int → Int → Int → Int → Int → Mo CH A) (hk_72 : ∀ (l0 : Int) (l1 : Int) (l2 : Int) (l3 : Int) (l4 : Int), R32 l4 → Sx Γ (fun h => (h, ts)) K 72 [(0, vA (mg Γ) l0), (1, vA (mg Γ) l1), (2, vA (mg Γ) l2), (3, vA (mg Γ) l3), (4, vI l4)] [] (k_72 l0 l1 l2 l3 l4)) (l0 : Int) (l1 : Int) (l2 : Int) (l3 : Int) (l4 : Int) (l5 : Int) (hl4 : R32 l4) (hl5 : R32 l5) : Sx Γ (fun h => (h, ts)) (KL Γ (fun h => (h, ts)) okc_X4_mayWait_42 K 42 (lvc_X4_mayWait_42 Γ) []) 42 [(0, vA (mg Γ) l0), (1, vA (mg Γ) l1), (2, vA (mg Γ) l2), (3, vA (mg Γ) l3), (4, vI l4), (5, vI l5)] [] (c_X4_mayWait_42b k_72 l0 l1 l2 l3 l4 l5) := by
  unfold c_X4_mayWait_42b
  refine s_iload o dX4_mayWait_42 5 rfl ?_
  refine s_aload_n o dX4_mayWait_44 rfl 3 rfl ?_
  refine s_alen o dX4_mayWait_45 (fun v1 hv1 => ?_)
  refine s_icmp_ge (tgt := 72) o dX4_mayWait_46 (by decide) hl5 (rN hv1) ?_ ?_
  · refine r_to [(0, vA (mg Γ) l0), (1, vA (mg Γ) l1), (2, vA (mg Γ) l2), (3, vA (mg Γ) l3), (4, vI l4)] [0, 1, 2, 3, 4] rfl ?_
    exact s_lo (hk_72 l0 l1 l2 l3 l4 hl4)
  · refine s_iload o dX4_mayWait_49 4 rfl ?_
    refine s_aload_n o dX4_mayWait_51 rfl 3 rfl ?_
    refine s_iload o dX4_mayWait_52 5 rfl ?_
    refine r_zald o hl5 dX4_mayWait_54 (fun v2 hv2 => ?_)
    refine s_if_eq (tgt := 62) o dX4_mayWait_55 (by decide) (rZ hv2) ?_ ?_
    · refine s_iconst o dX4_mayWait_62 ?_
      refine r_to [(0, vA (mg Γ) l0), (1, vA (mg Γ) l1), (2, vA (mg Γ) l2), (3, vA (mg Γ) l3), (5, vI l5)] [0, 1, 2, 3, 5] rfl ?_
      exact sc_X4_mayWait_63 o k_72 hk_72 l0 l1 l2 l3 l5 0 l4 hl5 (Or.inl rfl) hl4
    · refine s_iconst o dX4_mayWait_58 ?_
      refine s_goto (tgt := 63) o dX4_mayWait_59 (by decide) ?_
      refine r_to [(0, vA (mg Γ) l0), (1, vA (mg Γ) l1), (2, vA (mg Γ) l2), (3, vA (mg Γ) l3), (5, vI l5)] [0, 1, 2, 3, 5] rfl ?_
      exact sc_X4_mayWait_63 o k_72 hk_72 l0 l1 l2 l3 l5 1 l4 hl5 (Or.inr rfl) hl4
noncomputable def c_X4_mayWait_42 {A : Type} (k_72 : Int → Int → Int → Int → Int → Mo CH A) (l0 : Int) (l1 : Int) (l2 : Int) (l3 : Int) (l4 : Int) (l5 : Int) : Mo CH A := Loop (fun x => c_X4_mayWait_42b k_72 x.1 x.2.1 x.2.2.1 x.2.2.2.1 x.2.2.2.2.1 x.2.2.2.2.2) (l0, l1, l2, l3, l4, l5)
theorem sc_X4_mayWait_42 {Γ : Gm} {ts : TS} {d : Nat} (o : Ok Γ "LazyForge$Part" cX4_mayWait 6 (Option.none : Option Jvm.ClassFile.FieldType) (d + 201)) {A : Type} {K : A → CH → Prop} (k_72 : Int → Int → Int → Int → Int → Mo CH A) (hk_72 : ∀ (l0 : Int) (l1 : Int) (l2 : Int) (l3 : Int) (l4 : Int), R32 l4 → Sx Γ (fun h => (h, ts)) K 72 [(0, vA (mg Γ) l0), (1, vA (mg Γ) l1), (2, vA (mg Γ) l2), (3, vA (mg Γ) l3), (4, vI l4)] [] (k_72 l0 l1 l2 l3 l4)) (l0 : Int) (l1 : Int) (l2 : Int) (l3 : Int) (l4 : Int) (l5 : Int) (hl4 : R32 l4) (hl5 : R32 l5) : Sx Γ (fun h => (h, ts)) K 42 [(0, vA (mg Γ) l0), (1, vA (mg Γ) l1), (2, vA (mg Γ) l2), (3, vA (mg Γ) l3), (4, vI l4), (5, vI l5)] [] (c_X4_mayWait_42 k_72 l0 l1 l2 l3 l4 l5) :=
  s_loop okc_X4_mayWait_42 (lvc_X4_mayWait_42 Γ) (fun x hx => sc_X4_mayWait_42b o k_72 hk_72 x.1 x.2.1 x.2.2.1 x.2.2.2.1 x.2.2.2.2.1 x.2.2.2.2.2 hx.1 hx.2) (x := (l0, l1, l2, l3, l4, l5)) ⟨hl4, hl5⟩
abbrev okc_X4_mayWait_86 (x : Int × Int × Int × Int × Int × Int) : Prop := R32 x.2.2.2.2.1 ∧ R32 x.2.2.2.2.2
abbrev lvc_X4_mayWait_86 (Γ : Gm) (x : Int × Int × Int × Int × Int × Int) : List (Nat × Value) := [(0, vA (mg Γ) x.1), (1, vA (mg Γ) x.2.1), (2, vA (mg Γ) x.2.2.1), (3, vA (mg Γ) x.2.2.2.1), (4, vI x.2.2.2.2.1), (5, vI x.2.2.2.2.2)]
noncomputable def c_X4_mayWait_115 {A : Type} (k_121 : Int → Int → Int → Mo CH A) (l0 : Int) (l1 : Int) (l2 : Int) (l3 : Int) (l4 : Int) (l5 : Int) : Mo CH ((Int × Int × Int × Int × Int × Int) ⊕ A) :=
  pr (.inl (l0, l1, l2, l3, l4, (w32 (l5 + 1))))
theorem sc_X4_mayWait_115 {Γ : Gm} {ts : TS} {d : Nat} (o : Ok Γ "LazyForge$Part" cX4_mayWait 6 (Option.none : Option Jvm.ClassFile.FieldType) (d + 201)) {A : Type} {K : A → CH → Prop}  (k_121 : Int → Int → Int → Mo CH A) (hk_121 : ∀ (l0 : Int) (l1 : Int) (l2 : Int), Sx Γ (fun h => (h, ts)) K 121 [(0, vA (mg Γ) l0), (1, vA (mg Γ) l1), (2, vA (mg Γ) l2)] [] (k_121 l0 l1 l2)) (l0 : Int) (l1 : Int) (l2 : Int) (l3 : Int) (l4 : Int) (l5 : Int) (hl4 : R32 l4) (hl5 : R32 l5) : Sx Γ (fun h => (h, ts)) (KL Γ (fun h => (h, ts)) okc_X4_mayWait_86 K 86 (lvc_X4_mayWait_86 Γ) []) 115 [(0, vA (mg Γ) l0), (1, vA (mg Γ) l1), (2, vA (mg Γ) l2), (3, vA (mg Γ) l3), (4, vI l4), (5, vI l5)] [] (c_X4_mayWait_115 k_121 l0 l1 l2 l3 l4 l5) := by
  unfold c_X4_mayWait_115
  refine r_iinc (j := 5) o dX4_mayWait_115 rfl rfl [(0, vA (mg Γ) l0), (1, vA (mg Γ) l1), (2, vA (mg Γ) l2), (3, vA (mg Γ) l3), (4, vI l4)] [0, 1, 2, 3, 4] rfl ⟨(Nat.ne_of_beq_eq_false rfl), (fun _ => (vA_cat (mg Γ) l0)), ⟨(Nat.ne_of_beq_eq_false rfl), (fun _ => (vA_cat (mg Γ) l1)), ⟨(Nat.ne_of_beq_eq_false rfl), (fun _ => (vA_cat (mg Γ) l2)), ⟨(Nat.ne_of_beq_eq_false rfl), (fun _ => (vA_cat (mg Γ) l3)), ⟨(Nat.ne_of_beq_eq_false rfl), (fun _ => rfl), trivial⟩⟩⟩⟩⟩ ?_
  refine s_goto (tgt := 86) o dX4_mayWait_118 (by decide) ?_
  refine r_to [(0, vA (mg Γ) l0), (1, vA (mg Γ) l1), (2, vA (mg Γ) l2), (3, vA (mg Γ) l3), (4, vI l4), (5, vI (w32 (l5 + 1)))] [1, 2, 3, 4, 5, 0] rfl ?_
  exact s_back (⟨hl4, (w32_R _)⟩) rfl
noncomputable def c_X4_mayWait_86b {A : Type} (k_121 : Int → Int → Int → Mo CH A) (l0 : Int) (l1 : Int) (l2 : Int) (l3 : Int) (l4 : Int) (l5 : Int) : Mo CH ((Int × Int × Int × Int × Int × Int) ⊕ A) :=
  bnd (aln l3) fun v1 =>
  if v1 ≤ l5 then
    lo (k_121 l0 l1 l2)
  else
    bnd (ald 3 l3 l5) fun v2 =>
    if ¬ v2 = 0 then
      bnd (gf [106, 107, 108, 109, 110, 118, 119, 120, 121, 122, 123, 124, 125, 126] 3 l0) fun v3 =>
      bnd (ast 0 v3 l4 l5) fun _ =>
      c_X4_mayWait_115 k_121 l0 l1 l2 l3 (w32 (l4 + 1)) l5
    else
      c_X4_mayWait_115 k_121 l0 l1 l2 l3 l4 l5
theorem sc_X4_mayWait_86b {Γ : Gm} {ts : TS} {d : Nat} (o : Ok Γ "LazyForge$Part" cX4_mayWait 6 (Option.none : Option Jvm.ClassFile.FieldType) (d + 201)) {A : Type} {K : A → CH → Prop} (k_121 : Int → Int → Int → Mo CH A) (hk_121 : ∀ (l0 : Int) (l1 : Int) (l2 : Int), Sx Γ (fun h => (h, ts)) K 121 [(0, vA (mg Γ) l0), (1, vA (mg Γ) l1), (2, vA (mg Γ) l2)] [] (k_121 l0 l1 l2)) (l0 : Int) (l1 : Int) (l2 : Int) (l3 : Int) (l4 : Int) (l5 : Int) (hl4 : R32 l4) (hl5 : R32 l5) : Sx Γ (fun h => (h, ts)) (KL Γ (fun h => (h, ts)) okc_X4_mayWait_86 K 86 (lvc_X4_mayWait_86 Γ) []) 86 [(0, vA (mg Γ) l0), (1, vA (mg Γ) l1), (2, vA (mg Γ) l2), (3, vA (mg Γ) l3), (4, vI l4), (5, vI l5)] [] (c_X4_mayWait_86b k_121 l0 l1 l2 l3 l4 l5) := by
  unfold c_X4_mayWait_86b
  refine s_iload o dX4_mayWait_86 5 rfl ?_
  refine s_aload_n o dX4_mayWait_88 rfl 3 rfl ?_
  refine s_alen o dX4_mayWait_89 (fun v1 hv1 => ?_)
  refine s_icmp_ge (tgt := 121) o dX4_mayWait_90 (by decide) hl5 (rN hv1) ?_ ?_
  · refine r_to [(0, vA (mg Γ) l0), (1, vA (mg Γ) l1), (2, vA (mg Γ) l2)] [0, 1, 2] rfl ?_
    exact s_lo (hk_121 l0 l1 l2)
  · refine s_aload_n o dX4_mayWait_93 rfl 3 rfl ?_
    refine s_iload o dX4_mayWait_94 5 rfl ?_
    refine r_zald o hl5 dX4_mayWait_96 (fun v2 hv2 => ?_)
    refine s_if_ne (tgt := 103) o dX4_mayWait_97 (by decide) (rZ hv2) ?_ ?_
    · refine s_aload_n o dX4_mayWait_103 rfl 0 rfl ?_
      refine r_getf (vA (mg Γ)) rfl o cf_X4_captured (Or.inl (lw_all_tbl q263)) dX4_mayWait_104 (fun v3 hv3 => ?_)
      refine s_iload o dX4_mayWait_107 4 rfl ?_
      refine s_iload o dX4_mayWait_109 5 rfl ?_
      refine r_iast o hl4 hl5 dX4_mayWait_111 ?_
      refine r_iinc (j := 4) o dX4_mayWait_112 rfl rfl [(0, vA (mg Γ) l0), (1, vA (mg Γ) l1), (2, vA (mg Γ) l2), (3, vA (mg Γ) l3), (5, vI l5)] [0, 1, 2, 3, 5] rfl ⟨(Nat.ne_of_beq_eq_false rfl), (fun _ => (vA_cat (mg Γ) l0)), ⟨(Nat.ne_of_beq_eq_false rfl), (fun _ => (vA_cat (mg Γ) l1)), ⟨(Nat.ne_of_beq_eq_false rfl), (fun _ => (vA_cat (mg Γ) l2)), ⟨(Nat.ne_of_beq_eq_false rfl), (fun _ => (vA_cat (mg Γ) l3)), ⟨(Nat.ne_of_beq_eq_false rfl), (fun _ => rfl), trivial⟩⟩⟩⟩⟩ ?_
      refine r_to [(0, vA (mg Γ) l0), (1, vA (mg Γ) l1), (2, vA (mg Γ) l2), (3, vA (mg Γ) l3), (4, vI (w32 (l4 + 1))), (5, vI l5)] [1, 2, 3, 4, 0, 5] rfl ?_
      exact sc_X4_mayWait_115 o k_121 hk_121 l0 l1 l2 l3 (w32 (l4 + 1)) l5 (w32_R _) hl5
    · refine s_goto (tgt := 115) o dX4_mayWait_100 (by decide) ?_
      exact sc_X4_mayWait_115 o k_121 hk_121 l0 l1 l2 l3 l4 l5 hl4 hl5
noncomputable def c_X4_mayWait_86 {A : Type} (k_121 : Int → Int → Int → Mo CH A) (l0 : Int) (l1 : Int) (l2 : Int) (l3 : Int) (l4 : Int) (l5 : Int) : Mo CH A := Loop (fun x => c_X4_mayWait_86b k_121 x.1 x.2.1 x.2.2.1 x.2.2.2.1 x.2.2.2.2.1 x.2.2.2.2.2) (l0, l1, l2, l3, l4, l5)
theorem sc_X4_mayWait_86 {Γ : Gm} {ts : TS} {d : Nat} (o : Ok Γ "LazyForge$Part" cX4_mayWait 6 (Option.none : Option Jvm.ClassFile.FieldType) (d + 201)) {A : Type} {K : A → CH → Prop} (k_121 : Int → Int → Int → Mo CH A) (hk_121 : ∀ (l0 : Int) (l1 : Int) (l2 : Int), Sx Γ (fun h => (h, ts)) K 121 [(0, vA (mg Γ) l0), (1, vA (mg Γ) l1), (2, vA (mg Γ) l2)] [] (k_121 l0 l1 l2)) (l0 : Int) (l1 : Int) (l2 : Int) (l3 : Int) (l4 : Int) (l5 : Int) (hl4 : R32 l4) (hl5 : R32 l5) : Sx Γ (fun h => (h, ts)) K 86 [(0, vA (mg Γ) l0), (1, vA (mg Γ) l1), (2, vA (mg Γ) l2), (3, vA (mg Γ) l3), (4, vI l4), (5, vI l5)] [] (c_X4_mayWait_86 k_121 l0 l1 l2 l3 l4 l5) :=
  s_loop okc_X4_mayWait_86 (lvc_X4_mayWait_86 Γ) (fun x hx => sc_X4_mayWait_86b o k_121 hk_121 x.1 x.2.1 x.2.2.1 x.2.2.2.1 x.2.2.2.2.1 x.2.2.2.2.2 hx.1 hx.2) (x := (l0, l1, l2, l3, l4, l5)) ⟨hl4, hl5⟩
noncomputable def c_X4_mayWait (l0 : Int) (l1 : Int) (l2 : Int) : Mo CH Int :=
  bnd (gf [115] 2 l1) fun v1 =>
  c_X4_mayWait_8
    (fun v2 v3 v4 v5 => bnd (v_X4_uses v2 v5) fun _ =>
  bnd (v_X4_bound v2 v5) fun _ =>
  c_X4_mayWait_42
    (fun v6 v7 v8 v9 v10 => bnd (newa 0 v10) fun v11 =>
  bnd (pf [106, 107, 108, 109, 110, 118, 119, 120, 121, 122, 123, 124, 125, 126] 3 v6 v11) fun _ =>
  c_X4_mayWait_86
    (fun v12 v13 v14 => bnd (gf [115] 1 v13) fun v15 =>
  bnd (isk 127 v15) fun _ =>
  bnd (c_J13_size v15) fun v16 =>
  bnd (pf [106, 107, 108, 109, 110, 118, 119, 120, 121, 122, 123, 124, 125, 126] 2 v12 v16) fun _ =>
  bnd (gf [115] 1 v13) fun v17 =>
  bnd (isk 127 v17) fun _ =>
  bnd (c_J13_add v17 v12) fun v18 =>
  bnd (pf [106, 107, 108, 109, 110, 118, 119, 120, 121, 122, 123, 124, 125, 126] 4 v12 v14) fun _ =>
  pr 0) v6 v7 v8 v9 0 0) v2 v3 v4 v5 0 0) l0 l1 l2 v1 0
theorem sc_X4_mayWait (g : gC) (d : Nat) (ts : TS) (l0 : Int) (l1 : Int) (l2 : Int) : SF g yX4_mayWait (Cond.code yX4_mayWait cX4_mayWait 6 (Option.none : Option Jvm.ClassFile.FieldType)) (Option.none : Option Jvm.ClassFile.FieldType) (d + 201) [vA g l0, vA g l1, vA g l2] (fun h => (h, ts)) (c_X4_mayWait l0 l1 l2) := by
  refine SF.of (lv := [(0, vA g l0), (1, vA g l1), (2, vA g l2)]) (by decide) (wt_A (wt_A (wt_A wt_0))) rfl (by simp only [la_A, la_I, la_J, la_0]) (fun Γ hg hnm o => ?_)
  subst hg
  have o : Ok Γ "LazyForge$Part" cX4_mayWait 6 (Option.none : Option Jvm.ClassFile.FieldType) (d + 201) := o
  unfold c_X4_mayWait
  refine s_aload_n o dX4_mayWait_0 rfl 1 rfl ?_
  refine r_getf (vA (mg Γ)) rfl o cf_X15_some (Or.inr (Or.inl ⟨_, q1067⟩)) dX4_mayWait_1 (fun v1 hv1 => ?_)
  refine r_astore_n o dX4_mayWait_4 rfl rfl ⟨(Nat.ne_of_beq_eq_false rfl), (fun _ => (vA_cat (mg Γ) l0)), ⟨(Nat.ne_of_beq_eq_false rfl), (fun _ => (vA_cat (mg Γ) l1)), ⟨(Nat.ne_of_beq_eq_false rfl), (fun _ => (vA_cat (mg Γ) l2)), trivial⟩⟩⟩ ?_
  refine s_iconst o dX4_mayWait_5 ?_
  refine r_istore o dX4_mayWait_6 rfl ⟨(Nat.ne_of_beq_eq_false rfl), (fun _ => (vA_cat (mg Γ) v1)), ⟨(Nat.ne_of_beq_eq_false rfl), (fun _ => (vA_cat (mg Γ) l0)), ⟨(Nat.ne_of_beq_eq_false rfl), (fun _ => (vA_cat (mg Γ) l1)), ⟨(Nat.ne_of_beq_eq_false rfl), (fun _ => (vA_cat (mg Γ) l2)), trivial⟩⟩⟩⟩ ?_
  refine r_to [(0, vA (mg Γ) l0), (1, vA (mg Γ) l1), (2, vA (mg Γ) l2), (3, vA (mg Γ) v1), (4, vI 0)] [2, 3, 4, 1, 0] rfl ?_
  refine sc_X4_mayWait_8 o _ ?_ l0 l1 l2 v1 0 (r32 rfl)
  · intro v2 v3 v4 v5
    refine s_aload_n o dX4_mayWait_26 rfl 0 rfl ?_
    refine s_aload_n o dX4_mayWait_27 rfl 3 rfl ?_
    refine s_cu (d := d + 200) (As := [vA (mg Γ) v5]) (st := []) (owner := "LazyForge$Part") o (sv_X4_uses (mg Γ) d ts v2 v5) rfl (lw_all_tbl q1764) (lw_all_tbl q1766) (Or.inl q1765) ⟨by decide, by decide⟩ (by decide +kernel) wt_0 rfl dX4_mayWait_28 rfl (rs := fun _ => []) (fun _ => rfl) (fun _ _ => ?_)
    refine s_aload_n o dX4_mayWait_31 rfl 0 rfl ?_
    refine s_aload_n o dX4_mayWait_32 rfl 3 rfl ?_
    refine s_cu (d := d + 200) (As := [vA (mg Γ) v5]) (st := []) (owner := "LazyForge$Part") o (sv_X4_bound (mg Γ) d ts v2 v5) rfl (lw_all_tbl q1806) (lw_all_tbl q1808) (Or.inr ⟨_, _, _, (lw_all_tbl q1807), (lw_all_tbl q1838)⟩) ⟨by decide, by decide⟩ (by decide +kernel) wt_0 rfl dX4_mayWait_33 rfl (rs := fun _ => []) (fun _ => rfl) (fun _ _ => ?_)
    refine s_iconst o dX4_mayWait_36 ?_
    refine r_istore o dX4_mayWait_37 rfl ⟨(Nat.ne_of_beq_eq_false rfl), (fun _ => (vA_cat (mg Γ) v2)), ⟨(Nat.ne_of_beq_eq_false rfl), (fun _ => (vA_cat (mg Γ) v3)), ⟨(Nat.ne_of_beq_eq_false rfl), (fun _ => (vA_cat (mg Γ) v4)), ⟨(Nat.ne_of_beq_eq_false rfl), (fun _ => (vA_cat (mg Γ) v5)), trivial⟩⟩⟩⟩ ?_
    refine s_iconst o dX4_mayWait_39 ?_
    refine r_istore o dX4_mayWait_40 rfl ⟨(Nat.ne_of_beq_eq_false rfl), (fun _ => rfl), ⟨(Nat.ne_of_beq_eq_false rfl), (fun _ => (vA_cat (mg Γ) v2)), ⟨(Nat.ne_of_beq_eq_false rfl), (fun _ => (vA_cat (mg Γ) v3)), ⟨(Nat.ne_of_beq_eq_false rfl), (fun _ => (vA_cat (mg Γ) v4)), ⟨(Nat.ne_of_beq_eq_false rfl), (fun _ => (vA_cat (mg Γ) v5)), trivial⟩⟩⟩⟩⟩ ?_
    refine r_to [(0, vA (mg Γ) v2), (1, vA (mg Γ) v3), (2, vA (mg Γ) v4), (3, vA (mg Γ) v5), (4, vI 0), (5, vI 0)] [2, 3, 4, 5, 1, 0] rfl ?_
    refine sc_X4_mayWait_42 o _ ?_ v2 v3 v4 v5 0 0 (r32 rfl) (r32 rfl)
    · intro v6 v7 v8 v9 v10 hv10
      refine s_aload_n o dX4_mayWait_72 rfl 0 rfl ?_
      refine s_iload o dX4_mayWait_73 4 rfl ?_
      refine s_newa (kd := 0) o (by decide) rfl (by decide) (o.ra (by decide)) (lw_all_tbl q439) hv10 dX4_mayWait_75 (fun v11 hv11 => ?_)
      refine r_putf (vA (mg Γ)) rfl o cf_X4_captured (Or.inl (lw_all_tbl q263)) dX4_mayWait_77 (Or.inl rfl) trivial (ty_array _) ?_
      refine s_iconst o dX4_mayWait_80 ?_
      refine r_istoreP o dX4_mayWait_81 rfl [(0, vA (mg Γ) v6), (1, vA (mg Γ) v7), (2, vA (mg Γ) v8), (3, vA (mg Γ) v9)] [0, 1, 2, 3] rfl ⟨(Nat.ne_of_beq_eq_false rfl), (fun _ => (vA_cat (mg Γ) v6)), ⟨(Nat.ne_of_beq_eq_false rfl), (fun _ => (vA_cat (mg Γ) v7)), ⟨(Nat.ne_of_beq_eq_false rfl), (fun _ => (vA_cat (mg Γ) v8)), ⟨(Nat.ne_of_beq_eq_false rfl), (fun _ => (vA_cat (mg Γ) v9)), trivial⟩⟩⟩⟩ ?_
      refine s_iconst o dX4_mayWait_83 ?_
      refine r_istore o dX4_mayWait_84 rfl ⟨(Nat.ne_of_beq_eq_false rfl), (fun _ => rfl), ⟨(Nat.ne_of_beq_eq_false rfl), (fun _ => (vA_cat (mg Γ) v6)), ⟨(Nat.ne_of_beq_eq_false rfl), (fun _ => (vA_cat (mg Γ) v7)), ⟨(Nat.ne_of_beq_eq_false rfl), (fun _ => (vA_cat (mg Γ) v8)), ⟨(Nat.ne_of_beq_eq_false rfl), (fun _ => (vA_cat (mg Γ) v9)), trivial⟩⟩⟩⟩⟩ ?_
      refine r_to [(0, vA (mg Γ) v6), (1, vA (mg Γ) v7), (2, vA (mg Γ) v8), (3, vA (mg Γ) v9), (4, vI 0), (5, vI 0)] [2, 3, 4, 5, 1, 0] rfl ?_
      refine sc_X4_mayWait_86 o _ ?_ v6 v7 v8 v9 0 0 (r32 rfl) (r32 rfl)
      · intro v12 v13 v14
        refine s_aload_n o dX4_mayWait_121 rfl 0 rfl ?_
        refine s_aload_n o dX4_mayWait_122 rfl 1 rfl ?_
        refine r_getf (vA (mg Γ)) rfl o cf_X15_suspended (Or.inr (Or.inl ⟨_, q1062⟩)) dX4_mayWait_123 (fun v15 hv15 => ?_)
        refine s_cvC (d := d + 200) (As := []) (st := [vA (mg Γ) v12]) (c := 27) o (sc_J13_size (mg Γ) (d + 200) ts v15) mw_J13_size rfl (Or.inl (lw_all_tbl q1839)) rfl (lw_all_tbl q1359) (lw_all_tbl q1358) (wt_A wt_0) rfl dX4_mayWait_126 rfl (rs := fun r => [vI r, vA (mg Γ) v12]) (fun _ => rfl) (fun v16 hv16 => ?_)
        refine r_putf vI rfl o cf_X4_number (Or.inl (lw_all_tbl q260)) dX4_mayWait_129 (Or.inl rfl) (hv16 _ rfl) ty_int ?_
        refine s_aload_n o dX4_mayWait_132 rfl 1 rfl ?_
        refine r_getf (vA (mg Γ)) rfl o cf_X15_suspended (Or.inr (Or.inl ⟨_, q1062⟩)) dX4_mayWait_133 (fun v17 hv17 => ?_)
        refine s_aload_n o dX4_mayWait_136 rfl 0 rfl ?_
        refine s_cvC (d := d + 200) (As := [vA (mg Γ) v12]) (st := []) (c := 27) o (sc_J13_add (mg Γ) (d + 194) ts v17 v12) mw_J13_add rfl (Or.inl (lw_all_tbl q1840)) rfl (lw_all_tbl q1195) (lw_all_tbl q1194) wt_0 rfl dX4_mayWait_137 rfl (rs := fun r => [vI r]) (fun _ => rfl) (fun v18 hv18 => ?_)
        refine s_pop o dX4_mayWait_140 rfl ?_
        refine s_aload_n o dX4_mayWait_141 rfl 0 rfl ?_
        refine s_aload_n o dX4_mayWait_142 rfl 2 rfl ?_
        refine r_putf (vA (mg Γ)) rfl o cf_X4_in (Or.inl (lw_all_tbl q265)) dX4_mayWait_143 (Or.inl rfl) trivial (ty_object _) ?_
        exact s_vret o rfl dX4_mayWait_146 (fun _ hh => hh)
theorem dX4_clear_0 : decode cX4_clear 0 = .ok (.return_, 1) := by decide +kernel
theorem mw_X4_clear : MW yX4_clear (Cond.code yX4_clear cX4_clear 2 (Option.none : Option Jvm.ClassFile.FieldType)) cX4_clear 2 (Option.none : Option Jvm.ClassFile.FieldType) 1 := ⟨rfl, ⟨(lw_all_tbl q1692), rfl, (lw_all_tbl q166)⟩, rfl, ⟨by decide, by decide⟩, by decide +kernel⟩
noncomputable def c_X4_clear (l0 : Int) (l1 : Int) : Mo CH Int :=
  pr 0
theorem sc_X4_clear (g : gC) (d : Nat) (ts : TS) (l0 : Int) (l1 : Int) : SF g yX4_clear (Cond.code yX4_clear cX4_clear 2 (Option.none : Option Jvm.ClassFile.FieldType)) (Option.none : Option Jvm.ClassFile.FieldType) (d + 0) [vA g l0, vA g l1] (fun h => (h, ts)) (c_X4_clear l0 l1) := by
  refine SF.of (lv := [(0, vA g l0), (1, vA g l1)]) (by decide) (wt_A (wt_A wt_0)) rfl (by simp only [la_A, la_I, la_J, la_0]) (fun Γ hg hnm o => ?_)
  subst hg
  have o : Ok Γ "LazyForge$Part" cX4_clear 2 (Option.none : Option Jvm.ClassFile.FieldType) (d + 0) := o
  unfold c_X4_clear
  exact s_vret o rfl dX4_clear_0 (fun _ hh => hh)
theorem dX16_at_0 : decode cX16_at 0 = .ok (.aload_n 0, 1) := by decide +kernel
theorem dX16_at_1 : decode cX16_at 1 = .ok (.getfield 40, 3) := by decide +kernel
theorem dX16_at_4 : decode cX16_at 4 = .ok (.iload_n 1, 1) := by decide +kernel
theorem dX16_at_5 : decode cX16_at 5 = .ok (.bipush 6, 2) := by decide +kernel
theorem dX16_at_7 : decode cX16_at 7 = .ok (.ishr, 1) := by decide +kernel
theorem dX16_at_8 : decode cX16_at 8 = .ok (.laload, 1) := by decide +kernel
theorem dX16_at_9 : decode cX16_at 9 = .ok (.iload_n 1, 1) := by decide +kernel
theorem dX16_at_10 : decode cX16_at 10 = .ok (.bipush 63, 2) := by decide +kernel
theorem dX16_at_12 : decode cX16_at 12 = .ok (.iand, 1) := by decide +kernel
theorem dX16_at_13 : decode cX16_at 13 = .ok (.lshr, 1) := by decide +kernel
theorem dX16_at_14 : decode cX16_at 14 = .ok (.lconst 1, 1) := by decide +kernel
theorem dX16_at_15 : decode cX16_at 15 = .ok (.land, 1) := by decide +kernel
theorem dX16_at_16 : decode cX16_at 16 = .ok (.lconst 1, 1) := by decide +kernel
theorem dX16_at_17 : decode cX16_at 17 = .ok (.lcmp, 1) := by decide +kernel
theorem dX16_at_18 : decode cX16_at 18 = .ok (.ifCond .ne 7, 3) := by decide +kernel
theorem dX16_at_21 : decode cX16_at 21 = .ok (.iconst 1, 1) := by decide +kernel
theorem dX16_at_22 : decode cX16_at 22 = .ok (.goto 4, 3) := by decide +kernel
theorem dX16_at_25 : decode cX16_at 25 = .ok (.iconst 0, 1) := by decide +kernel
theorem dX16_at_26 : decode cX16_at 26 = .ok (.ireturn, 1) := by decide +kernel
theorem mw_X16_at : MW yX16_at (Cond.code yX16_at cX16_at 2 (Option.some Jvm.ClassFile.FieldType.boolean)) cX16_at 2 (Option.some Jvm.ClassFile.FieldType.boolean) 1 := ⟨rfl, ⟨(lw_all_tbl q1641), rfl, (lw_all_tbl q193)⟩, rfl, ⟨by decide, by decide⟩, by decide +kernel⟩
noncomputable def c_X16_at (l0 : Int) (l1 : Int) : Mo CH Int :=
  bnd (gf [116] 8 l0) fun v1 =>
  bnd (ald 1 v1 (ishr l1 6)) fun v2 =>
  if ¬ (land (lshr v2 (iand l1 63)) 1) = 1 then
    pr 0
  else
    pr 1
theorem sc_X16_at (g : gC) (d : Nat) (ts : TS) (l0 : Int) (l1 : Int) (hl1 : R32 l1) : SF g yX16_at (Cond.code yX16_at cX16_at 2 (Option.some Jvm.ClassFile.FieldType.boolean)) (Option.some Jvm.ClassFile.FieldType.boolean) (d + 0) [vA g l0, vI l1] (fun h => (h, ts)) (c_X16_at l0 l1) := by
  refine SF.of (lv := [(0, vA g l0), (1, vI l1)]) (by decide) (wt_A (wt_I wt_0)) rfl (by simp only [la_A, la_I, la_J, la_0]) (fun Γ hg hnm o => ?_)
  subst hg
  have o : Ok Γ "LazyForge$Function" cX16_at 2 (Option.some Jvm.ClassFile.FieldType.boolean) (d + 0) := o
  unfold c_X16_at
  refine s_aload_n o dX16_at_0 rfl 0 rfl ?_
  refine r_getf (vA (mg Γ)) rfl o cf_X16_table (Or.inl (lw_all_tbl q1164)) dX16_at_1 (fun v1 hv1 => ?_)
  refine s_iload_n o dX16_at_4 rfl 1 rfl ?_
  refine s_bipush o dX16_at_5 rfl ?_
  refine s_ishr o dX16_at_7 ?_
  refine r_lald o (ishr_R _ _) dX16_at_8 (fun v2 hv2 => ?_)
  refine s_iload_n o dX16_at_9 rfl 1 rfl ?_
  refine s_bipush o dX16_at_10 rfl ?_
  refine s_iand o dX16_at_12 ?_
  refine s_lshr o dX16_at_13 ?_
  refine s_lconst (x := 1) o dX16_at_14 rfl ?_
  refine s_land o dX16_at_15 ?_
  refine s_lconst (x := 1) o dX16_at_16 rfl ?_
  refine s_lcmp_ne (tgt := 25) o dX16_at_17 dX16_at_18 (by decide) (land_R _ _) (r64 rfl) ?_ ?_
  · refine s_iconst o dX16_at_25 ?_
    exact s_iret o rfl i_boolean (Or.inl rfl) dX16_at_26 (fun _ hh => hh)
  · refine s_iconst o dX16_at_21 ?_
    refine s_goto (tgt := 26) o dX16_at_22 (by decide) ?_
    exact s_iret o rfl i_boolean (Or.inr rfl) dX16_at_26 (fun _ hh => hh)
theorem dX19_isWhole_0 : decode cX19_isWhole 0 = .ok (.aload_n 0, 1) := by decide +kernel
theorem dX19_isWhole_1 : decode cX19_isWhole 1 = .ok (.getfield 9, 3) := by decide +kernel
theorem dX19_isWhole_4 : decode cX19_isWhole 4 = .ok (.invokevirtual 15, 3) := by decide +kernel
theorem dX19_isWhole_7 : decode cX19_isWhole 7 = .ok (.ifCond .ne 7, 3) := by decide +kernel
theorem dX19_isWhole_10 : decode cX19_isWhole 10 = .ok (.iconst 1, 1) := by decide +kernel
theorem dX19_isWhole_11 : decode cX19_isWhole 11 = .ok (.goto 4, 3) := by decide +kernel
theorem dX19_isWhole_14 : decode cX19_isWhole 14 = .ok (.iconst 0, 1) := by decide +kernel
theorem dX19_isWhole_15 : decode cX19_isWhole 15 = .ok (.ireturn, 1) := by decide +kernel
theorem mw_X19_isWhole : MW yX19_isWhole (Cond.code yX19_isWhole cX19_isWhole 1 (Option.some Jvm.ClassFile.FieldType.boolean)) cX19_isWhole 1 (Option.some Jvm.ClassFile.FieldType.boolean) 0 := ⟨rfl, ⟨(lw_all_tbl q1721), rfl, (lw_all_tbl q199)⟩, rfl, ⟨by decide, by decide⟩, by decide +kernel⟩
noncomputable def c_X19_isWhole (l0 : Int) : Mo CH Int :=
  bnd (gf [119] 5 l0) fun v1 =>
  bnd (isk 116 v1) fun _ =>
  bnd (c_X16_parameters v1) fun v2 =>
  if ¬ v2 = 0 then
    pr 0
  else
    pr 1
theorem sc_X19_isWhole (g : gC) (d : Nat) (ts : TS) (l0 : Int) : SF g yX19_isWhole (Cond.code yX19_isWhole cX19_isWhole 1 (Option.some Jvm.ClassFile.FieldType.boolean)) (Option.some Jvm.ClassFile.FieldType.boolean) (d + 2) [vA g l0] (fun h => (h, ts)) (c_X19_isWhole l0) := by
  refine SF.of (lv := [(0, vA g l0)]) (by decide) (wt_A wt_0) rfl (by simp only [la_A, la_I, la_J, la_0]) (fun Γ hg hnm o => ?_)
  subst hg
  have o : Ok Γ "LazyForge$Named" cX19_isWhole 1 (Option.some Jvm.ClassFile.FieldType.boolean) (d + 2) := o
  unfold c_X19_isWhole
  refine s_aload_n o dX19_isWhole_0 rfl 0 rfl ?_
  refine r_getf (vA (mg Γ)) rfl o cf_X19_function (Or.inl (lw_all_tbl q1367)) dX19_isWhole_1 (fun v1 hv1 => ?_)
  refine s_cvC (d := d + 1) (As := []) (st := []) (c := 16) o (sc_X16_parameters (mg Γ) d ts v1) mw_X16_parameters rfl (Or.inl (lw_all_tbl q1722)) rfl (lw_all_tbl q1606) (lw_all_tbl q1605) wt_0 rfl dX19_isWhole_4 rfl (rs := fun r => [vI r]) (fun _ => rfl) (fun v2 hv2 => ?_)
  refine s_if_ne (tgt := 14) o dX19_isWhole_7 (by decide) (hv2 _ rfl) ?_ ?_
  · refine s_iconst o dX19_isWhole_14 ?_
    exact s_iret o rfl i_boolean (Or.inl rfl) dX19_isWhole_15 (fun _ hh => hh)
  · refine s_iconst o dX19_isWhole_10 ?_
    refine s_goto (tgt := 15) o dX19_isWhole_11 (by decide) ?_
    exact s_iret o rfl i_boolean (Or.inr rfl) dX19_isWhole_15 (fun _ hh => hh)
theorem dX19_bit_0 : decode cX19_bit 0 = .ok (.aload_n 0, 1) := by decide +kernel
theorem dX19_bit_1 : decode cX19_bit 1 = .ok (.invokevirtual 21, 3) := by decide +kernel
theorem dX19_bit_4 : decode cX19_bit 4 = .ok (.ifCond .eq 14, 3) := by decide +kernel
theorem dX19_bit_7 : decode cX19_bit 7 = .ok (.aload_n 0, 1) := by decide +kernel
theorem dX19_bit_8 : decode cX19_bit 8 = .ok (.getfield 9, 3) := by decide +kernel
theorem dX19_bit_11 : decode cX19_bit 11 = .ok (.iconst 0, 1) := by decide +kernel
theorem dX19_bit_12 : decode cX19_bit 12 = .ok (.invokevirtual 25, 3) := by decide +kernel
theorem dX19_bit_15 : decode cX19_bit 15 = .ok (.ifCond .eq 7, 3) := by decide +kernel
theorem dX19_bit_18 : decode cX19_bit 18 = .ok (.iconst 1, 1) := by decide +kernel
theorem dX19_bit_19 : decode cX19_bit 19 = .ok (.goto 4, 3) := by decide +kernel
theorem dX19_bit_22 : decode cX19_bit 22 = .ok (.iconst 0, 1) := by decide +kernel
theorem dX19_bit_23 : decode cX19_bit 23 = .ok (.ireturn, 1) := by decide +kernel
theorem mw_X19_bit : MW yX19_bit (Cond.code yX19_bit cX19_bit 2 (Option.some Jvm.ClassFile.FieldType.boolean)) cX19_bit 2 (Option.some Jvm.ClassFile.FieldType.boolean) 1 := ⟨rfl, ⟨(lw_all_tbl q1717), rfl, (lw_all_tbl q199)⟩, rfl, ⟨by decide, by decide⟩, by decide +kernel⟩
noncomputable def c_X19_bit_18  : Mo CH Int :=
  pr 1
theorem sc_X19_bit_18 {Γ : Gm} {ts : TS} {d : Nat} (o : Ok Γ "LazyForge$Named" cX19_bit 2 (Option.some Jvm.ClassFile.FieldType.boolean) (d + 3))   : Sx Γ (fun h => (h, ts)) (fun a s => mt Γ = (0, a, ((s, ts) : Wd))) 18 [] [] (c_X19_bit_18) := by
  unfold c_X19_bit_18
  refine s_iconst o dX19_bit_18 ?_
  refine s_goto (tgt := 23) o dX19_bit_19 (by decide) ?_
  exact s_iret o rfl i_boolean (Or.inr rfl) dX19_bit_23 (fun _ hh => hh)
noncomputable def c_X19_bit (l0 : Int) (l1 : Int) : Mo CH Int :=
  bnd (isk 119 l0) fun _ =>
  bnd (c_X19_isWhole l0) fun v1 =>
  if v1 = 0 then
    c_X19_bit_18
  else
    bnd (gf [119] 5 l0) fun v2 =>
    bnd (isk 116 v2) fun _ =>
    bnd (c_X16_at v2 0) fun v3 =>
    if v3 = 0 then
      pr 0
    else
      c_X19_bit_18
theorem sc_X19_bit (g : gC) (d : Nat) (ts : TS) (l0 : Int) (l1 : Int) : SF g yX19_bit (Cond.code yX19_bit cX19_bit 2 (Option.some Jvm.ClassFile.FieldType.boolean)) (Option.some Jvm.ClassFile.FieldType.boolean) (d + 3) [vA g l0, vA g l1] (fun h => (h, ts)) (c_X19_bit l0 l1) := by
  refine SF.of (lv := [(0, vA g l0), (1, vA g l1)]) (by decide) (wt_A (wt_A wt_0)) rfl (by simp only [la_A, la_I, la_J, la_0]) (fun Γ hg hnm o => ?_)
  subst hg
  have o : Ok Γ "LazyForge$Named" cX19_bit 2 (Option.some Jvm.ClassFile.FieldType.boolean) (d + 3) := o
  unfold c_X19_bit
  refine s_aload_n o dX19_bit_0 rfl 0 rfl ?_
  refine s_cvC (d := d + 2) (As := []) (st := []) (c := 19) o (sc_X19_isWhole (mg Γ) d ts l0) mw_X19_isWhole rfl (Or.inl (lw_all_tbl q1718)) rfl (lw_all_tbl q1720) (lw_all_tbl q1719) wt_0 rfl dX19_bit_1 rfl (rs := fun r => [vI r]) (fun _ => rfl) (fun v1 hv1 => ?_)
  refine s_if_eq (tgt := 18) o dX19_bit_4 (by decide) (rZ (hv1 _ rfl)) ?_ ?_
  · refine r_to [] [] rfl ?_
    exact sc_X19_bit_18 o
  · refine s_aload_n o dX19_bit_7 rfl 0 rfl ?_
    refine r_getf (vA (mg Γ)) rfl o cf_X19_function (Or.inl (lw_all_tbl q1367)) dX19_bit_8 (fun v2 hv2 => ?_)
    refine s_iconst o dX19_bit_11 ?_
    refine s_cvC (d := d + 2) (As := [vI 0]) (st := []) (c := 16) o (sc_X16_at (mg Γ) (d + 2) ts v2 0 (r32 rfl)) mw_X16_at rfl (Or.inl (lw_all_tbl q1723)) rfl (lw_all_tbl q1640) (lw_all_tbl q1639) wt_0 rfl dX19_bit_12 rfl (rs := fun r => [vI r]) (fun _ => rfl) (fun v3 hv3 => ?_)
    refine s_if_eq (tgt := 22) o dX19_bit_15 (by decide) (rZ (hv3 _ rfl)) ?_ ?_
    · refine s_iconst o dX19_bit_22 ?_
      exact s_iret o rfl i_boolean (Or.inl rfl) dX19_bit_23 (fun _ hh => hh)
    · refine r_to [] [] rfl ?_
      exact sc_X19_bit_18 o
theorem dX20_bit_0 : decode cX20_bit 0 = .ok (.aload_n 1, 1) := by decide +kernel
theorem dX20_bit_1 : decode cX20_bit 1 = .ok (.aload_n 0, 1) := by decide +kernel
theorem dX20_bit_2 : decode cX20_bit 2 = .ok (.getfield 23, 3) := by decide +kernel
theorem dX20_bit_5 : decode cX20_bit 5 = .ok (.baload, 1) := by decide +kernel
theorem dX20_bit_6 : decode cX20_bit 6 = .ok (.ireturn, 1) := by decide +kernel
theorem mw_X20_bit : MW yX20_bit (Cond.code yX20_bit cX20_bit 2 (Option.some Jvm.ClassFile.FieldType.boolean)) cX20_bit 2 (Option.some Jvm.ClassFile.FieldType.boolean) 1 := ⟨rfl, ⟨(lw_all_tbl q1728), rfl, (lw_all_tbl q200)⟩, rfl, ⟨by decide, by decide⟩, by decide +kernel⟩
noncomputable def c_X20_bit (l0 : Int) (l1 : Int) : Mo CH Int :=
  bnd (gf [120] 7 l0) fun v1 =>
  bnd (ald 3 l1 v1) fun v2 =>
  pr v2
theorem sc_X20_bit (g : gC) (d : Nat) (ts : TS) (l0 : Int) (l1 : Int) : SF g yX20_bit (Cond.code yX20_bit cX20_bit 2 (Option.some Jvm.ClassFile.FieldType.boolean)) (Option.some Jvm.ClassFile.FieldType.boolean) (d + 0) [vA g l0, vA g l1] (fun h => (h, ts)) (c_X20_bit l0 l1) := by
  refine SF.of (lv := [(0, vA g l0), (1, vA g l1)]) (by decide) (wt_A (wt_A wt_0)) rfl (by simp only [la_A, la_I, la_J, la_0]) (fun Γ hg hnm o => ?_)
  subst hg
  have o : Ok Γ "LazyForge$Use" cX20_bit 2 (Option.some Jvm.ClassFile.FieldType.boolean) (d + 0) := o
  unfold c_X20_bit
  refine s_aload_n o dX20_bit_0 rfl 1 rfl ?_
  refine s_aload_n o dX20_bit_1 rfl 0 rfl ?_
  refine r_getf vI rfl o cf_X20_number0 (Or.inl (lw_all_tbl q1446)) dX20_bit_2 (fun v1 hv1 => ?_)
  refine r_zald o hv1 dX20_bit_5 (fun v2 hv2 => ?_)
  exact s_iret o rfl i_boolean hv2 dX20_bit_6 (fun _ hh => hh)
theorem dX24_bit_0 : decode cX24_bit 0 = .ok (.iconst 1, 1) := by decide +kernel
theorem dX24_bit_1 : decode cX24_bit 1 = .ok (.ireturn, 1) := by decide +kernel
theorem mw_X24_bit : MW yX24_bit (Cond.code yX24_bit cX24_bit 2 (Option.some Jvm.ClassFile.FieldType.boolean)) cX24_bit 2 (Option.some Jvm.ClassFile.FieldType.boolean) 1 := ⟨rfl, ⟨(lw_all_tbl q1713), rfl, (lw_all_tbl q204)⟩, rfl, ⟨by decide, by decide⟩, by decide +kernel⟩
noncomputable def c_X24_bit (l0 : Int) (l1 : Int) : Mo CH Int :=
  pr 1
theorem sc_X24_bit (g : gC) (d : Nat) (ts : TS) (l0 : Int) (l1 : Int) : SF g yX24_bit (Cond.code yX24_bit cX24_bit 2 (Option.some Jvm.ClassFile.FieldType.boolean)) (Option.some Jvm.ClassFile.FieldType.boolean) (d + 0) [vA g l0, vA g l1] (fun h => (h, ts)) (c_X24_bit l0 l1) := by
  refine SF.of (lv := [(0, vA g l0), (1, vA g l1)]) (by decide) (wt_A (wt_A wt_0)) rfl (by simp only [la_A, la_I, la_J, la_0]) (fun Γ hg hnm o => ?_)
  subst hg
  have o : Ok Γ "LazyForge$Literal" cX24_bit 2 (Option.some Jvm.ClassFile.FieldType.boolean) (d + 0) := o
  unfold c_X24_bit
  refine s_iconst o dX24_bit_0 ?_
  exact s_iret o rfl i_boolean (Or.inr rfl) dX24_bit_1 (fun _ hh => hh)
theorem dX25_bit_0 : decode cX25_bit 0 = .ok (.iconst 1, 1) := by decide +kernel
theorem dX25_bit_1 : decode cX25_bit 1 = .ok (.ireturn, 1) := by decide +kernel
theorem mw_X25_bit : MW yX25_bit (Cond.code yX25_bit cX25_bit 2 (Option.some Jvm.ClassFile.FieldType.boolean)) cX25_bit 2 (Option.some Jvm.ClassFile.FieldType.boolean) 1 := ⟨rfl, ⟨(lw_all_tbl q1715), rfl, (lw_all_tbl q205)⟩, rfl, ⟨by decide, by decide⟩, by decide +kernel⟩
noncomputable def c_X25_bit (l0 : Int) (l1 : Int) : Mo CH Int :=
  pr 1
theorem sc_X25_bit (g : gC) (d : Nat) (ts : TS) (l0 : Int) (l1 : Int) : SF g yX25_bit (Cond.code yX25_bit cX25_bit 2 (Option.some Jvm.ClassFile.FieldType.boolean)) (Option.some Jvm.ClassFile.FieldType.boolean) (d + 0) [vA g l0, vA g l1] (fun h => (h, ts)) (c_X25_bit l0 l1) := by
  refine SF.of (lv := [(0, vA g l0), (1, vA g l1)]) (by decide) (wt_A (wt_A wt_0)) rfl (by simp only [la_A, la_I, la_J, la_0]) (fun Γ hg hnm o => ?_)
  subst hg
  have o : Ok Γ "LazyForge$Made" cX25_bit 2 (Option.some Jvm.ClassFile.FieldType.boolean) (d + 0) := o
  unfold c_X25_bit
  refine s_iconst o dX25_bit_0 ?_
  exact s_iret o rfl i_boolean (Or.inr rfl) dX25_bit_1 (fun _ hh => hh)
theorem dX26_bit_0 : decode cX26_bit 0 = .ok (.iconst 0, 1) := by decide +kernel
theorem dX26_bit_1 : decode cX26_bit 1 = .ok (.ireturn, 1) := by decide +kernel
theorem mw_X26_bit : MW yX26_bit (Cond.code yX26_bit cX26_bit 2 (Option.some Jvm.ClassFile.FieldType.boolean)) cX26_bit 2 (Option.some Jvm.ClassFile.FieldType.boolean) 1 := ⟨rfl, ⟨(lw_all_tbl q1708), rfl, (lw_all_tbl q206)⟩, rfl, ⟨by decide, by decide⟩, by decide +kernel⟩
noncomputable def c_X26_bit (l0 : Int) (l1 : Int) : Mo CH Int :=
  pr 0
theorem sc_X26_bit (g : gC) (d : Nat) (ts : TS) (l0 : Int) (l1 : Int) : SF g yX26_bit (Cond.code yX26_bit cX26_bit 2 (Option.some Jvm.ClassFile.FieldType.boolean)) (Option.some Jvm.ClassFile.FieldType.boolean) (d + 0) [vA g l0, vA g l1] (fun h => (h, ts)) (c_X26_bit l0 l1) := by
  refine SF.of (lv := [(0, vA g l0), (1, vA g l1)]) (by decide) (wt_A (wt_A wt_0)) rfl (by simp only [la_A, la_I, la_J, la_0]) (fun Γ hg hnm o => ?_)
  subst hg
  have o : Ok Γ "LazyForge$Fail" cX26_bit 2 (Option.some Jvm.ClassFile.FieldType.boolean) (d + 0) := o
  unfold c_X26_bit
  refine s_iconst o dX26_bit_0 ?_
  exact s_iret o rfl i_boolean (Or.inl rfl) dX26_bit_1 (fun _ hh => hh)
theorem dX23_bit_0 : decode cX23_bit 0 = .ok (.aload_n 0, 1) := by decide +kernel
theorem dX23_bit_1 : decode cX23_bit 1 = .ok (.getfield 13, 3) := by decide +kernel
theorem dX23_bit_4 : decode cX23_bit 4 = .ok (.aload_n 1, 1) := by decide +kernel
theorem dX23_bit_5 : decode cX23_bit 5 = .ok (.invokevirtual 24, 3) := by decide +kernel
theorem dX23_bit_8 : decode cX23_bit 8 = .ok (.ifCond .eq 18, 3) := by decide +kernel
theorem dX23_bit_11 : decode cX23_bit 11 = .ok (.aload_n 0, 1) := by decide +kernel
theorem dX23_bit_12 : decode cX23_bit 12 = .ok (.getfield 17, 3) := by decide +kernel
theorem dX23_bit_15 : decode cX23_bit 15 = .ok (.aload_n 1, 1) := by decide +kernel
theorem dX23_bit_16 : decode cX23_bit 16 = .ok (.invokevirtual 24, 3) := by decide +kernel
theorem dX23_bit_19 : decode cX23_bit 19 = .ok (.ifCond .eq 7, 3) := by decide +kernel
theorem dX23_bit_22 : decode cX23_bit 22 = .ok (.iconst 1, 1) := by decide +kernel
theorem dX23_bit_23 : decode cX23_bit 23 = .ok (.goto 4, 3) := by decide +kernel
theorem dX23_bit_26 : decode cX23_bit 26 = .ok (.iconst 0, 1) := by decide +kernel
theorem dX23_bit_27 : decode cX23_bit 27 = .ok (.ireturn, 1) := by decide +kernel
theorem mw_X23_bit : MW yX23_bit (Cond.code yX23_bit cX23_bit 2 (Option.some Jvm.ClassFile.FieldType.boolean)) cX23_bit 2 (Option.some Jvm.ClassFile.FieldType.boolean) 1 := ⟨rfl, ⟨(lw_all_tbl q1725), rfl, (lw_all_tbl q203)⟩, rfl, ⟨by decide, by decide⟩, by decide +kernel⟩
theorem dX22_bit_0 : decode cX22_bit 0 = .ok (.aload_n 0, 1) := by decide +kernel
theorem dX22_bit_1 : decode cX22_bit 1 = .ok (.getfield 9, 3) := by decide +kernel
theorem dX22_bit_4 : decode cX22_bit 4 = .ok (.aload_n 1, 1) := by decide +kernel
theorem dX22_bit_5 : decode cX22_bit 5 = .ok (.invokevirtual 38, 3) := by decide +kernel
theorem dX22_bit_8 : decode cX22_bit 8 = .ok (.ifCond .ne 5, 3) := by decide +kernel
theorem dX22_bit_11 : decode cX22_bit 11 = .ok (.iconst 0, 1) := by decide +kernel
theorem dX22_bit_12 : decode cX22_bit 12 = .ok (.ireturn, 1) := by decide +kernel
theorem dX22_bit_13 : decode cX22_bit 13 = .ok (.iconst 0, 1) := by decide +kernel
theorem dX22_bit_14 : decode cX22_bit 14 = .ok (.istore_n 2, 1) := by decide +kernel
theorem dX22_bit_15 : decode cX22_bit 15 = .ok (.iconst 0, 1) := by decide +kernel
theorem dX22_bit_16 : decode cX22_bit 16 = .ok (.istore_n 3, 1) := by decide +kernel
theorem dX22_bit_17 : decode cX22_bit 17 = .ok (.iload_n 3, 1) := by decide +kernel
theorem dX22_bit_18 : decode cX22_bit 18 = .ok (.aload_n 0, 1) := by decide +kernel
theorem dX22_bit_19 : decode cX22_bit 19 = .ok (.getfield 26, 3) := by decide +kernel
theorem dX22_bit_22 : decode cX22_bit 22 = .ok (.arraylength, 1) := by decide +kernel
theorem dX22_bit_23 : decode cX22_bit 23 = .ok (.if_icmp .ge 76, 3) := by decide +kernel
theorem dX22_bit_26 : decode cX22_bit 26 = .ok (.aload_n 0, 1) := by decide +kernel
theorem dX22_bit_27 : decode cX22_bit 27 = .ok (.getfield 22, 3) := by decide +kernel
theorem dX22_bit_30 : decode cX22_bit 30 = .ok (.iload_n 3, 1) := by decide +kernel
theorem dX22_bit_31 : decode cX22_bit 31 = .ok (.aaload, 1) := by decide +kernel
theorem dX22_bit_32 : decode cX22_bit 32 = .ok (.astore 4, 2) := by decide +kernel
theorem dX22_bit_34 : decode cX22_bit 34 = .ok (.aload 4, 2) := by decide +kernel
theorem dX22_bit_36 : decode cX22_bit 36 = .ok (.arraylength, 1) := by decide +kernel
theorem dX22_bit_37 : decode cX22_bit 37 = .ok (.istore 5, 2) := by decide +kernel
theorem dX22_bit_39 : decode cX22_bit 39 = .ok (.iconst 0, 1) := by decide +kernel
theorem dX22_bit_40 : decode cX22_bit 40 = .ok (.istore 6, 2) := by decide +kernel
theorem dX22_bit_42 : decode cX22_bit 42 = .ok (.iload 6, 2) := by decide +kernel
theorem dX22_bit_44 : decode cX22_bit 44 = .ok (.iload 5, 2) := by decide +kernel
theorem dX22_bit_46 : decode cX22_bit 46 = .ok (.if_icmp .ge 24, 3) := by decide +kernel
theorem dX22_bit_49 : decode cX22_bit 49 = .ok (.aload 4, 2) := by decide +kernel
theorem dX22_bit_51 : decode cX22_bit 51 = .ok (.iload 6, 2) := by decide +kernel
theorem dX22_bit_53 : decode cX22_bit 53 = .ok (.aaload, 1) := by decide +kernel
theorem dX22_bit_54 : decode cX22_bit 54 = .ok (.astore 7, 2) := by decide +kernel
theorem dX22_bit_56 : decode cX22_bit 56 = .ok (.aload_n 1, 1) := by decide +kernel
theorem dX22_bit_57 : decode cX22_bit 57 = .ok (.aload 7, 2) := by decide +kernel
theorem dX22_bit_59 : decode cX22_bit 59 = .ok (.getfield 42, 3) := by decide +kernel
theorem dX22_bit_62 : decode cX22_bit 62 = .ok (.iconst 1, 1) := by decide +kernel
theorem dX22_bit_63 : decode cX22_bit 63 = .ok (.bastore, 1) := by decide +kernel
theorem dX22_bit_64 : decode cX22_bit 64 = .ok (.iinc 6 1, 3) := by decide +kernel
theorem dX22_bit_67 : decode cX22_bit 67 = .ok (.goto (-25), 3) := by decide +kernel
theorem dX22_bit_70 : decode cX22_bit 70 = .ok (.aload_n 0, 1) := by decide +kernel
theorem dX22_bit_71 : decode cX22_bit 71 = .ok (.getfield 26, 3) := by decide +kernel
theorem dX22_bit_74 : decode cX22_bit 74 = .ok (.iload_n 3, 1) := by decide +kernel
theorem dX22_bit_75 : decode cX22_bit 75 = .ok (.aaload, 1) := by decide +kernel
theorem dX22_bit_76 : decode cX22_bit 76 = .ok (.aload_n 1, 1) := by decide +kernel
theorem dX22_bit_77 : decode cX22_bit 77 = .ok (.invokevirtual 38, 3) := by decide +kernel
theorem dX22_bit_80 : decode cX22_bit 80 = .ok (.ifCond .ne 7, 3) := by decide +kernel
theorem dX22_bit_83 : decode cX22_bit 83 = .ok (.iload_n 2, 1) := by decide +kernel
theorem dX22_bit_84 : decode cX22_bit 84 = .ok (.ifCond .eq 7, 3) := by decide +kernel
theorem dX22_bit_87 : decode cX22_bit 87 = .ok (.iconst 1, 1) := by decide +kernel
theorem dX22_bit_88 : decode cX22_bit 88 = .ok (.goto 4, 3) := by decide +kernel
theorem dX22_bit_91 : decode cX22_bit 91 = .ok (.iconst 0, 1) := by decide +kernel
theorem dX22_bit_92 : decode cX22_bit 92 = .ok (.istore_n 2, 1) := by decide +kernel
theorem dX22_bit_93 : decode cX22_bit 93 = .ok (.iinc 3 1, 3) := by decide +kernel
theorem dX22_bit_96 : decode cX22_bit 96 = .ok (.goto (-79), 3) := by decide +kernel
theorem dX22_bit_99 : decode cX22_bit 99 = .ok (.iload_n 2, 1) := by decide +kernel
theorem dX22_bit_100 : decode cX22_bit 100 = .ok (.ireturn, 1) := by decide +kernel
theorem mw_X22_bit : MW yX22_bit (Cond.code yX22_bit cX22_bit 8 (Option.some Jvm.ClassFile.FieldType.boolean)) cX22_bit 8 (Option.some Jvm.ClassFile.FieldType.boolean) 1 := ⟨rfl, ⟨(lw_all_tbl q1705), rfl, (lw_all_tbl q202)⟩, rfl, ⟨by decide, by decide⟩, by decide +kernel⟩
theorem dX21_bit_0 : decode cX21_bit 0 = .ok (.aload_n 0, 1) := by decide +kernel
theorem dX21_bit_1 : decode cX21_bit 1 = .ok (.getfield 9, 3) := by decide +kernel
theorem dX21_bit_4 : decode cX21_bit 4 = .ok (.instanceof 23, 3) := by decide +kernel
theorem dX21_bit_7 : decode cX21_bit 7 = .ok (.ifCond .ne 12, 3) := by decide +kernel
theorem dX21_bit_10 : decode cX21_bit 10 = .ok (.aload_n 0, 1) := by decide +kernel
theorem dX21_bit_11 : decode cX21_bit 11 = .ok (.getfield 9, 3) := by decide +kernel
theorem dX21_bit_14 : decode cX21_bit 14 = .ok (.aload_n 1, 1) := by decide +kernel
theorem dX21_bit_15 : decode cX21_bit 15 = .ok (.invokevirtual 46, 3) := by decide +kernel
theorem dX21_bit_18 : decode cX21_bit 18 = .ok (.ireturn, 1) := by decide +kernel
theorem dX21_bit_19 : decode cX21_bit 19 = .ok (.aload_n 0, 1) := by decide +kernel
theorem dX21_bit_20 : decode cX21_bit 20 = .ok (.getfield 9, 3) := by decide +kernel
theorem dX21_bit_23 : decode cX21_bit 23 = .ok (.checkcast 23, 3) := by decide +kernel
theorem dX21_bit_26 : decode cX21_bit 26 = .ok (.getfield 29, 3) := by decide +kernel
theorem dX21_bit_29 : decode cX21_bit 29 = .ok (.astore_n 2, 1) := by decide +kernel
theorem dX21_bit_30 : decode cX21_bit 30 = .ok (.aload_n 2, 1) := by decide +kernel
theorem dX21_bit_31 : decode cX21_bit 31 = .ok (.invokevirtual 36, 3) := by decide +kernel
theorem dX21_bit_34 : decode cX21_bit 34 = .ok (.istore_n 3, 1) := by decide +kernel
theorem dX21_bit_35 : decode cX21_bit 35 = .ok (.iconst 0, 1) := by decide +kernel
theorem dX21_bit_36 : decode cX21_bit 36 = .ok (.istore 4, 2) := by decide +kernel
theorem dX21_bit_38 : decode cX21_bit 38 = .ok (.aload_n 0, 1) := by decide +kernel
theorem dX21_bit_39 : decode cX21_bit 39 = .ok (.getfield 15, 3) := by decide +kernel
theorem dX21_bit_42 : decode cX21_bit 42 = .ok (.arraylength, 1) := by decide +kernel
theorem dX21_bit_43 : decode cX21_bit 43 = .ok (.iload_n 3, 1) := by decide +kernel
theorem dX21_bit_44 : decode cX21_bit 44 = .ok (.if_icmp .ge 5, 3) := by decide +kernel
theorem dX21_bit_47 : decode cX21_bit 47 = .ok (.iconst 1, 1) := by decide +kernel
theorem dX21_bit_48 : decode cX21_bit 48 = .ok (.ireturn, 1) := by decide +kernel
theorem dX21_bit_49 : decode cX21_bit 49 = .ok (.iconst 0, 1) := by decide +kernel
theorem dX21_bit_50 : decode cX21_bit 50 = .ok (.istore 5, 2) := by decide +kernel
theorem dX21_bit_52 : decode cX21_bit 52 = .ok (.iload 5, 2) := by decide +kernel
theorem dX21_bit_54 : decode cX21_bit 54 = .ok (.iload_n 3, 1) := by decide +kernel
theorem dX21_bit_55 : decode cX21_bit 55 = .ok (.if_icmp .ge 36, 3) := by decide +kernel
theorem dX21_bit_58 : decode cX21_bit 58 = .ok (.iload 4, 2) := by decide +kernel
theorem dX21_bit_60 : decode cX21_bit 60 = .ok (.aload_n 0, 1) := by decide +kernel
theorem dX21_bit_61 : decode cX21_bit 61 = .ok (.getfield 15, 3) := by decide +kernel
theorem dX21_bit_64 : decode cX21_bit 64 = .ok (.iload 5, 2) := by decide +kernel
theorem dX21_bit_66 : decode cX21_bit 66 = .ok (.aaload, 1) := by decide +kernel
theorem dX21_bit_67 : decode cX21_bit 67 = .ok (.aload_n 1, 1) := by decide +kernel
theorem dX21_bit_68 : decode cX21_bit 68 = .ok (.invokevirtual 46, 3) := by decide +kernel
theorem dX21_bit_71 : decode cX21_bit 71 = .ok (.ifCond .eq 10, 3) := by decide +kernel
theorem dX21_bit_74 : decode cX21_bit 74 = .ok (.iconst 1, 1) := by decide +kernel
theorem dX21_bit_75 : decode cX21_bit 75 = .ok (.iload 5, 2) := by decide +kernel
theorem dX21_bit_77 : decode cX21_bit 77 = .ok (.ishl, 1) := by decide +kernel
theorem dX21_bit_78 : decode cX21_bit 78 = .ok (.goto 4, 3) := by decide +kernel
theorem dX21_bit_81 : decode cX21_bit 81 = .ok (.iconst 0, 1) := by decide +kernel
theorem dX21_bit_82 : decode cX21_bit 82 = .ok (.ior, 1) := by decide +kernel
theorem dX21_bit_83 : decode cX21_bit 83 = .ok (.istore 4, 2) := by decide +kernel
theorem dX21_bit_85 : decode cX21_bit 85 = .ok (.iinc 5 1, 3) := by decide +kernel
theorem dX21_bit_88 : decode cX21_bit 88 = .ok (.goto (-36), 3) := by decide +kernel
theorem dX21_bit_91 : decode cX21_bit 91 = .ok (.aload_n 2, 1) := by decide +kernel
theorem dX21_bit_92 : decode cX21_bit 92 = .ok (.iload 4, 2) := by decide +kernel
theorem dX21_bit_94 : decode cX21_bit 94 = .ok (.invokevirtual 50, 3) := by decide +kernel
theorem dX21_bit_97 : decode cX21_bit 97 = .ok (.ireturn, 1) := by decide +kernel
theorem mw_X21_bit : MW yX21_bit (Cond.code yX21_bit cX21_bit 6 (Option.some Jvm.ClassFile.FieldType.boolean)) cX21_bit 6 (Option.some Jvm.ClassFile.FieldType.boolean) 1 := ⟨rfl, ⟨(lw_all_tbl q1701), rfl, (lw_all_tbl q201)⟩, rfl, ⟨by decide, by decide⟩, by decide +kernel⟩
theorem dX18_bit_0 : decode cX18_bit 0 = .ok (.iconst 0, 1) := by decide +kernel
theorem dX18_bit_1 : decode cX18_bit 1 = .ok (.istore_n 2, 1) := by decide +kernel
theorem dX18_bit_2 : decode cX18_bit 2 = .ok (.iload_n 2, 1) := by decide +kernel
theorem dX18_bit_3 : decode cX18_bit 3 = .ok (.aload_n 0, 1) := by decide +kernel
theorem dX18_bit_4 : decode cX18_bit 4 = .ok (.getfield 7, 3) := by decide +kernel
theorem dX18_bit_7 : decode cX18_bit 7 = .ok (.arraylength, 1) := by decide +kernel
theorem dX18_bit_8 : decode cX18_bit 8 = .ok (.if_icmp .ge 52, 3) := by decide +kernel
theorem dX18_bit_11 : decode cX18_bit 11 = .ok (.aload_n 0, 1) := by decide +kernel
theorem dX18_bit_12 : decode cX18_bit 12 = .ok (.getfield 7, 3) := by decide +kernel
theorem dX18_bit_15 : decode cX18_bit 15 = .ok (.iload_n 2, 1) := by decide +kernel
theorem dX18_bit_16 : decode cX18_bit 16 = .ok (.aaload, 1) := by decide +kernel
theorem dX18_bit_17 : decode cX18_bit 17 = .ok (.getfield 25, 3) := by decide +kernel
theorem dX18_bit_20 : decode cX18_bit 20 = .ok (.istore_n 3, 1) := by decide +kernel
theorem dX18_bit_21 : decode cX18_bit 21 = .ok (.aload_n 0, 1) := by decide +kernel
theorem dX18_bit_22 : decode cX18_bit 22 = .ok (.getfield 13, 3) := by decide +kernel
theorem dX18_bit_25 : decode cX18_bit 25 = .ok (.iload_n 2, 1) := by decide +kernel
theorem dX18_bit_26 : decode cX18_bit 26 = .ok (.aaload, 1) := by decide +kernel
theorem dX18_bit_27 : decode cX18_bit 27 = .ok (.aload_n 1, 1) := by decide +kernel
theorem dX18_bit_28 : decode cX18_bit 28 = .ok (.invokevirtual 35, 3) := by decide +kernel
theorem dX18_bit_31 : decode cX18_bit 31 = .ok (.ifCond .eq 23, 3) := by decide +kernel
theorem dX18_bit_34 : decode cX18_bit 34 = .ok (.aload_n 1, 1) := by decide +kernel
theorem dX18_bit_35 : decode cX18_bit 35 = .ok (.iload_n 3, 1) := by decide +kernel
theorem dX18_bit_36 : decode cX18_bit 36 = .ok (.baload, 1) := by decide +kernel
theorem dX18_bit_37 : decode cX18_bit 37 = .ok (.ifCond .eq 6, 3) := by decide +kernel
theorem dX18_bit_40 : decode cX18_bit 40 = .ok (.goto 14, 3) := by decide +kernel
theorem dX18_bit_43 : decode cX18_bit 43 = .ok (.aload_n 1, 1) := by decide +kernel
theorem dX18_bit_44 : decode cX18_bit 44 = .ok (.iload_n 3, 1) := by decide +kernel
theorem dX18_bit_45 : decode cX18_bit 45 = .ok (.iconst 1, 1) := by decide +kernel
theorem dX18_bit_46 : decode cX18_bit 46 = .ok (.bastore, 1) := by decide +kernel
theorem dX18_bit_47 : decode cX18_bit 47 = .ok (.aload_n 1, 1) := by decide +kernel
theorem dX18_bit_48 : decode cX18_bit 48 = .ok (.aload_n 1, 1) := by decide +kernel
theorem dX18_bit_49 : decode cX18_bit 49 = .ok (.arraylength, 1) := by decide +kernel
theorem dX18_bit_50 : decode cX18_bit 50 = .ok (.iconst 1, 1) := by decide +kernel
theorem dX18_bit_51 : decode cX18_bit 51 = .ok (.isub, 1) := by decide +kernel
theorem dX18_bit_52 : decode cX18_bit 52 = .ok (.iconst 1, 1) := by decide +kernel
theorem dX18_bit_53 : decode cX18_bit 53 = .ok (.bastore, 1) := by decide +kernel
theorem dX18_bit_54 : decode cX18_bit 54 = .ok (.iinc 2 1, 3) := by decide +kernel
theorem dX18_bit_57 : decode cX18_bit 57 = .ok (.goto (-55), 3) := by decide +kernel
theorem dX18_bit_60 : decode cX18_bit 60 = .ok (.aload_n 0, 1) := by decide +kernel
theorem dX18_bit_61 : decode cX18_bit 61 = .ok (.getfield 17, 3) := by decide +kernel
theorem dX18_bit_64 : decode cX18_bit 64 = .ok (.aload_n 1, 1) := by decide +kernel
theorem dX18_bit_65 : decode cX18_bit 65 = .ok (.invokevirtual 35, 3) := by decide +kernel
theorem dX18_bit_68 : decode cX18_bit 68 = .ok (.ireturn, 1) := by decide +kernel
theorem mw_X18_bit : MW yX18_bit (Cond.code yX18_bit cX18_bit 4 (Option.some Jvm.ClassFile.FieldType.boolean)) cX18_bit 4 (Option.some Jvm.ClassFile.FieldType.boolean) 1 := ⟨rfl, ⟨(lw_all_tbl q1710), rfl, (lw_all_tbl q198)⟩, rfl, ⟨by decide, by decide⟩, by decide +kernel⟩
def GR_bit (g : gC) (ts : TS) (d : Nat) (rc : Rc) : Prop := (∀ (l0 : Int) (l1 : Int), VR g ts ⟨"LazyForge$Part", "bit", "([Z)Z"⟩ (some .boolean) 1 d l0 [vA g l1] (rc 0 l0 l1 0 0 0))
theorem gr_bit_0 {g : gC} {ts : TS} {d : Nat} {rc : Rc} (h : GR_bit g ts d rc) : (∀ (l0 : Int) (l1 : Int), VR g ts ⟨"LazyForge$Part", "bit", "([Z)Z"⟩ (some .boolean) 1 d l0 [vA g l1] (rc 0 l0 l1 0 0 0)) := h
noncomputable def b_X23_bit (rc : Rc) (l0 : Int) (l1 : Int) : Mo CH Int :=
  bnd (gf [123] 6 l0) fun v1 =>
  bnd (rc 0 v1 l1 0 0 0) fun v2 =>
  if v2 = 0 then
    pr 0
  else
    bnd (gf [123] 7 l0) fun v3 =>
    bnd (rc 0 v3 l1 0 0 0) fun v4 =>
    if v4 = 0 then
      pr 0
    else
      pr 1
theorem sb_X23_bit (g : gC) (d : Nat) (ts : TS) (rc : Rc) (hr : GR_bit g ts (d + 3) rc) (l0 : Int) (l1 : Int) : SF g yX23_bit (Cond.code yX23_bit cX23_bit 2 (Option.some Jvm.ClassFile.FieldType.boolean)) (Option.some Jvm.ClassFile.FieldType.boolean) (d + 4) [vA g l0, vA g l1] (fun h => (h, ts)) (b_X23_bit rc l0 l1) := by
  refine SF.of (lv := [(0, vA g l0), (1, vA g l1)]) (by decide) (wt_A (wt_A wt_0)) rfl (by simp only [la_A, la_I, la_J, la_0]) (fun Γ hg hnm o => ?_)
  subst hg
  have o : Ok Γ "LazyForge$Sign" cX23_bit 2 (Option.some Jvm.ClassFile.FieldType.boolean) (d + 4) := o
  unfold b_X23_bit
  refine s_aload_n o dX23_bit_0 rfl 0 rfl ?_
  refine r_getf (vA (mg Γ)) rfl o cf_X23_one (Or.inl (lw_all_tbl q1526)) dX23_bit_1 (fun v1 hv1 => ?_)
  refine s_aload_n o dX23_bit_4 rfl 1 rfl ?_
  refine s_cu (d := d + 3) (As := [vA (mg Γ) l1]) (st := []) (owner := "LazyForge$Part") o (gr_bit_0 hr v1 l1) rfl (lw_all_tbl q1726) (lw_all_tbl q1695) (Or.inl q1694) ⟨by decide, by decide⟩ (by decide +kernel) wt_0 rfl dX23_bit_5 rfl (rs := fun r => [vI r]) (fun _ => rfl) (fun v2 hv2 => ?_)
  refine s_if_eq (tgt := 26) o dX23_bit_8 (by decide) (rZ (hv2 _ rfl)) ?_ ?_
  · refine s_iconst o dX23_bit_26 ?_
    exact s_iret o rfl i_boolean (Or.inl rfl) dX23_bit_27 (fun _ hh => hh)
  · refine s_aload_n o dX23_bit_11 rfl 0 rfl ?_
    refine r_getf (vA (mg Γ)) rfl o cf_X23_two (Or.inl (lw_all_tbl q1527)) dX23_bit_12 (fun v3 hv3 => ?_)
    refine s_aload_n o dX23_bit_15 rfl 1 rfl ?_
    refine s_cu (d := d + 3) (As := [vA (mg Γ) l1]) (st := []) (owner := "LazyForge$Part") o (gr_bit_0 hr v3 l1) rfl (lw_all_tbl q1726) (lw_all_tbl q1695) (Or.inl q1694) ⟨by decide, by decide⟩ (by decide +kernel) wt_0 rfl dX23_bit_16 rfl (rs := fun r => [vI r]) (fun _ => rfl) (fun v4 hv4 => ?_)
    refine s_if_eq (tgt := 26) o dX23_bit_19 (by decide) (rZ (hv4 _ rfl)) ?_ ?_
    · refine s_iconst o dX23_bit_26 ?_
      exact s_iret o rfl i_boolean (Or.inl rfl) dX23_bit_27 (fun _ hh => hh)
    · refine s_iconst o dX23_bit_22 ?_
      refine s_goto (tgt := 27) o dX23_bit_23 (by decide) ?_
      exact s_iret o rfl i_boolean (Or.inr rfl) dX23_bit_27 (fun _ hh => hh)
abbrev okb_X22_bit_42 (x : Int × Int × Int × Int × Int × Int × Int) : Prop := rg .boolean x.2.2.1 ∧ R32 x.2.2.2.1 ∧ R32 x.2.2.2.2.2.1 ∧ R32 x.2.2.2.2.2.2
abbrev lvb_X22_bit_42 (Γ : Gm) (x : Int × Int × Int × Int × Int × Int × Int) : List (Nat × Value) := [(0, vA (mg Γ) x.1), (1, vA (mg Γ) x.2.1), (2, vI x.2.2.1), (3, vI x.2.2.2.1), (4, vA (mg Γ) x.2.2.2.2.1), (5, vI x.2.2.2.2.2.1), (6, vI x.2.2.2.2.2.2)]
noncomputable def b_X22_bit_42b (rc : Rc) {A : Type} (k_70 : Int → Int → Int → Int → Mo CH A) (l0 : Int) (l1 : Int) (l2 : Int) (l3 : Int) (l4 : Int) (l5 : Int) (l6 : Int) : Mo CH ((Int × Int × Int × Int × Int × Int × Int) ⊕ A) :=
  if l5 ≤ l6 then
    lo (k_70 l0 l1 l2 l3)
  else
    bnd (ald 7 l4 l6) fun v1 =>
    bnd (gf [117] 1 v1) fun v2 =>
    bnd (ast 3 l1 v2 1) fun _ =>
    pr (.inl (l0, l1, l2, l3, l4, l5, (w32 (l6 + 1))))
theorem sb_X22_bit_42b {Γ : Gm} {ts : TS} {d : Nat} {rc : Rc} (hr : GR_bit (mg Γ) ts (d + 3) rc) (o : Ok Γ "LazyForge$Case" cX22_bit 8 (Option.some Jvm.ClassFile.FieldType.boolean) (d + 4)) {A : Type} {K : A → CH → Prop} (k_70 : Int → Int → Int → Int → Mo CH A) (hk_70 : ∀ (l0 : Int) (l1 : Int) (l2 : Int) (l3 : Int), rg .boolean l2 → R32 l3 → Sx Γ (fun h => (h, ts)) K 70 [(0, vA (mg Γ) l0), (1, vA (mg Γ) l1), (2, vI l2), (3, vI l3)] [] (k_70 l0 l1 l2 l3)) (l0 : Int) (l1 : Int) (l2 : Int) (l3 : Int) (l4 : Int) (l5 : Int) (l6 : Int) (hl2 : rg .boolean l2) (hl3 : R32 l3) (hl5 : R32 l5) (hl6 : R32 l6) : Sx Γ (fun h => (h, ts)) (KL Γ (fun h => (h, ts)) okb_X22_bit_42 K 42 (lvb_X22_bit_42 Γ) []) 42 [(0, vA (mg Γ) l0), (1, vA (mg Γ) l1), (2, vI l2), (3, vI l3), (4, vA (mg Γ) l4), (5, vI l5), (6, vI l6)] [] (b_X22_bit_42b rc k_70 l0 l1 l2 l3 l4 l5 l6) := by
  unfold b_X22_bit_42b
  refine s_iload o dX22_bit_42 6 rfl ?_
  refine s_iload o dX22_bit_44 5 rfl ?_
  refine s_icmp_ge (tgt := 70) o dX22_bit_46 (by decide) hl6 hl5 ?_ ?_
  · refine r_to [(0, vA (mg Γ) l0), (1, vA (mg Γ) l1), (2, vI l2), (3, vI l3)] [0, 1, 2, 3] rfl ?_
    exact s_lo (hk_70 l0 l1 l2 l3 hl2 hl3)
  · refine s_aload o dX22_bit_49 4 rfl ?_
    refine s_iload o dX22_bit_51 6 rfl ?_
    refine r_aald (kd := 7) o (by decide) rfl hl6 dX22_bit_53 (fun v1 => ?_)
    refine r_astore o dX22_bit_54 rfl ⟨(Nat.ne_of_beq_eq_false rfl), (fun _ => (vA_cat (mg Γ) l0)), ⟨(Nat.ne_of_beq_eq_false rfl), (fun _ => (vA_cat (mg Γ) l1)), ⟨(Nat.ne_of_beq_eq_false rfl), (fun _ => rfl), ⟨(Nat.ne_of_beq_eq_false rfl), (fun _ => rfl), ⟨(Nat.ne_of_beq_eq_false rfl), (fun _ => (vA_cat (mg Γ) l4)), ⟨(Nat.ne_of_beq_eq_false rfl), (fun _ => rfl), ⟨(Nat.ne_of_beq_eq_false rfl), (fun _ => rfl), trivial⟩⟩⟩⟩⟩⟩⟩ ?_
    refine s_aload_n o dX22_bit_56 rfl 2 rfl ?_
    refine s_aload o dX22_bit_57 0 rfl ?_
    refine r_getf vI rfl o cf_X17_number (Or.inr (Or.inl ⟨_, q1291⟩)) dX22_bit_59 (fun v2 hv2 => ?_)
    refine s_iconst o dX22_bit_62 ?_
    refine r_zast o hv2 (Or.inr rfl) dX22_bit_63 ?_
    refine r_iinc (j := 7) o dX22_bit_64 rfl rfl [(7, vA (mg Γ) v1), (0, vA (mg Γ) l0), (1, vA (mg Γ) l1), (2, vI l2), (3, vI l3), (4, vA (mg Γ) l4), (5, vI l5)] [0, 1, 2, 3, 4, 5, 6] rfl ⟨(Nat.ne_of_beq_eq_false rfl), (fun _ => (vA_cat (mg Γ) v1)), ⟨(Nat.ne_of_beq_eq_false rfl), (fun _ => (vA_cat (mg Γ) l0)), ⟨(Nat.ne_of_beq_eq_false rfl), (fun _ => (vA_cat (mg Γ) l1)), ⟨(Nat.ne_of_beq_eq_false rfl), (fun _ => rfl), ⟨(Nat.ne_of_beq_eq_false rfl), (fun _ => rfl), ⟨(Nat.ne_of_beq_eq_false rfl), (fun _ => (vA_cat (mg Γ) l4)), ⟨(Nat.ne_of_beq_eq_false rfl), (fun _ => rfl), trivial⟩⟩⟩⟩⟩⟩⟩ ?_
    refine s_goto (tgt := 42) o dX22_bit_67 (by decide) ?_
    refine r_to [(0, vA (mg Γ) l0), (1, vA (mg Γ) l1), (2, vI l2), (3, vI l3), (4, vA (mg Γ) l4), (5, vI l5), (6, vI (w32 (l6 + 1)))] [2, 3, 4, 5, 6, 7, 0] rfl ?_
    exact s_back (⟨hl2, hl3, hl5, (w32_R _)⟩) rfl
noncomputable def b_X22_bit_42 (rc : Rc) {A : Type} (k_70 : Int → Int → Int → Int → Mo CH A) (l0 : Int) (l1 : Int) (l2 : Int) (l3 : Int) (l4 : Int) (l5 : Int) (l6 : Int) : Mo CH A := Loop (fun x => b_X22_bit_42b rc k_70 x.1 x.2.1 x.2.2.1 x.2.2.2.1 x.2.2.2.2.1 x.2.2.2.2.2.1 x.2.2.2.2.2.2) (l0, l1, l2, l3, l4, l5, l6)
theorem sb_X22_bit_42 {Γ : Gm} {ts : TS} {d : Nat} {rc : Rc} (hr : GR_bit (mg Γ) ts (d + 3) rc) (o : Ok Γ "LazyForge$Case" cX22_bit 8 (Option.some Jvm.ClassFile.FieldType.boolean) (d + 4)) {A : Type} {K : A → CH → Prop} (k_70 : Int → Int → Int → Int → Mo CH A) (hk_70 : ∀ (l0 : Int) (l1 : Int) (l2 : Int) (l3 : Int), rg .boolean l2 → R32 l3 → Sx Γ (fun h => (h, ts)) K 70 [(0, vA (mg Γ) l0), (1, vA (mg Γ) l1), (2, vI l2), (3, vI l3)] [] (k_70 l0 l1 l2 l3)) (l0 : Int) (l1 : Int) (l2 : Int) (l3 : Int) (l4 : Int) (l5 : Int) (l6 : Int) (hl2 : rg .boolean l2) (hl3 : R32 l3) (hl5 : R32 l5) (hl6 : R32 l6) : Sx Γ (fun h => (h, ts)) K 42 [(0, vA (mg Γ) l0), (1, vA (mg Γ) l1), (2, vI l2), (3, vI l3), (4, vA (mg Γ) l4), (5, vI l5), (6, vI l6)] [] (b_X22_bit_42 rc k_70 l0 l1 l2 l3 l4 l5 l6) :=
  s_loop okb_X22_bit_42 (lvb_X22_bit_42 Γ) (fun x hx => sb_X22_bit_42b hr o k_70 hk_70 x.1 x.2.1 x.2.2.1 x.2.2.2.1 x.2.2.2.2.1 x.2.2.2.2.2.1 x.2.2.2.2.2.2 hx.1 hx.2.1 hx.2.2.1 hx.2.2.2) (x := (l0, l1, l2, l3, l4, l5, l6)) ⟨hl2, hl3, hl5, hl6⟩
abbrev okb_X22_bit_17 (x : Int × Int × Int × Int) : Prop := rg .boolean x.2.2.1 ∧ R32 x.2.2.2
abbrev lvb_X22_bit_17 (Γ : Gm) (x : Int × Int × Int × Int) : List (Nat × Value) := [(0, vA (mg Γ) x.1), (1, vA (mg Γ) x.2.1), (2, vI x.2.2.1), (3, vI x.2.2.2)]
noncomputable def b_X22_bit_92 (rc : Rc) {A : Type} (k_99 : Int → Mo CH A) (l0 : Int) (l1 : Int) (l3 : Int) (k0 : Int) : Mo CH ((Int × Int × Int × Int) ⊕ A) :=
  pr (.inl (l0, l1, k0, (w32 (l3 + 1))))
theorem sb_X22_bit_92 {Γ : Gm} {ts : TS} {d : Nat} {rc : Rc} (hr : GR_bit (mg Γ) ts (d + 3) rc) (o : Ok Γ "LazyForge$Case" cX22_bit 8 (Option.some Jvm.ClassFile.FieldType.boolean) (d + 4)) {A : Type} {K : A → CH → Prop}  (k_99 : Int → Mo CH A) (hk_99 : ∀ (l2 : Int), rg .boolean l2 → Sx Γ (fun h => (h, ts)) K 99 [(2, vI l2)] [] (k_99 l2)) (l0 : Int) (l1 : Int) (l3 : Int) (k0 : Int) (hl3 : R32 l3) (hk0 : rg .boolean k0) : Sx Γ (fun h => (h, ts)) (KL Γ (fun h => (h, ts)) okb_X22_bit_17 K 17 (lvb_X22_bit_17 Γ) []) 92 [(0, vA (mg Γ) l0), (1, vA (mg Γ) l1), (3, vI l3)] [vI k0] (b_X22_bit_92 rc k_99 l0 l1 l3 k0) := by
  unfold b_X22_bit_92
  refine r_istore_n o dX22_bit_92 rfl rfl ⟨(Nat.ne_of_beq_eq_false rfl), (fun _ => (vA_cat (mg Γ) l0)), ⟨(Nat.ne_of_beq_eq_false rfl), (fun _ => (vA_cat (mg Γ) l1)), ⟨(Nat.ne_of_beq_eq_false rfl), (fun _ => rfl), trivial⟩⟩⟩ ?_
  refine r_iinc (j := 3) o dX22_bit_93 rfl rfl [(2, vI k0), (0, vA (mg Γ) l0), (1, vA (mg Γ) l1)] [0, 1, 2] rfl ⟨(Nat.ne_of_beq_eq_false rfl), (fun _ => rfl), ⟨(Nat.ne_of_beq_eq_false rfl), (fun _ => (vA_cat (mg Γ) l0)), ⟨(Nat.ne_of_beq_eq_false rfl), (fun _ => (vA_cat (mg Γ) l1)), trivial⟩⟩⟩ ?_
  refine s_goto (tgt := 17) o dX22_bit_96 (by decide) ?_
  refine r_to [(0, vA (mg Γ) l0), (1, vA (mg Γ) l1), (2, vI k0), (3, vI (w32 (l3 + 1)))] [2, 3, 1, 0] rfl ?_
  exact s_back (⟨hk0, (w32_R _)⟩) rfl
noncomputable def b_X22_bit_87 (rc : Rc) {A : Type} (k_99 : Int → Mo CH A) (l0 : Int) (l1 : Int) (l3 : Int) : Mo CH ((Int × Int × Int × Int) ⊕ A) :=
  b_X22_bit_92 rc k_99 l0 l1 l3 1
theorem sb_X22_bit_87 {Γ : Gm} {ts : TS} {d : Nat} {rc : Rc} (hr : GR_bit (mg Γ) ts (d + 3) rc) (o : Ok Γ "LazyForge$Case" cX22_bit 8 (Option.some Jvm.ClassFile.FieldType.boolean) (d + 4)) {A : Type} {K : A → CH → Prop}  (k_99 : Int → Mo CH A) (hk_99 : ∀ (l2 : Int), rg .boolean l2 → Sx Γ (fun h => (h, ts)) K 99 [(2, vI l2)] [] (k_99 l2)) (l0 : Int) (l1 : Int) (l3 : Int) (hl3 : R32 l3) : Sx Γ (fun h => (h, ts)) (KL Γ (fun h => (h, ts)) okb_X22_bit_17 K 17 (lvb_X22_bit_17 Γ) []) 87 [(0, vA (mg Γ) l0), (1, vA (mg Γ) l1), (3, vI l3)] [] (b_X22_bit_87 rc k_99 l0 l1 l3) := by
  unfold b_X22_bit_87
  refine s_iconst o dX22_bit_87 ?_
  refine s_goto (tgt := 92) o dX22_bit_88 (by decide) ?_
  exact sb_X22_bit_92 hr o k_99 hk_99 l0 l1 l3 1 hl3 (Or.inr rfl)
noncomputable def b_X22_bit_17b (rc : Rc) {A : Type} (k_99 : Int → Mo CH A) (l0 : Int) (l1 : Int) (l2 : Int) (l3 : Int) : Mo CH ((Int × Int × Int × Int) ⊕ A) :=
  bnd (gf [122] 9 l0) fun v1 =>
  bnd (aln v1) fun v2 =>
  if v2 ≤ l3 then
    lo (k_99 l2)
  else
    bnd (gf [122] 8 l0) fun v3 =>
    bnd (ald 9 v3 l3) fun v4 =>
    bnd (aln v4) fun v5 =>
    b_X22_bit_42 rc
      (fun v6 v7 v8 v9 => bnd (gf [122] 9 v6) fun v10 =>
    bnd (ald 5 v10 v9) fun v11 =>
    bnd (rc 0 v11 v7 0 0 0) fun v12 =>
    if ¬ v12 = 0 then
      b_X22_bit_87 rc k_99 v6 v7 v9
    else
      if v8 = 0 then
        b_X22_bit_92 rc k_99 v6 v7 v9 0
      else
        b_X22_bit_87 rc k_99 v6 v7 v9) l0 l1 l2 l3 v4 v5 0
theorem sb_X22_bit_17b {Γ : Gm} {ts : TS} {d : Nat} {rc : Rc} (hr : GR_bit (mg Γ) ts (d + 3) rc) (o : Ok Γ "LazyForge$Case" cX22_bit 8 (Option.some Jvm.ClassFile.FieldType.boolean) (d + 4)) {A : Type} {K : A → CH → Prop} (k_99 : Int → Mo CH A) (hk_99 : ∀ (l2 : Int), rg .boolean l2 → Sx Γ (fun h => (h, ts)) K 99 [(2, vI l2)] [] (k_99 l2)) (l0 : Int) (l1 : Int) (l2 : Int) (l3 : Int) (hl2 : rg .boolean l2) (hl3 : R32 l3) : Sx Γ (fun h => (h, ts)) (KL Γ (fun h => (h, ts)) okb_X22_bit_17 K 17 (lvb_X22_bit_17 Γ) []) 17 [(0, vA (mg Γ) l0), (1, vA (mg Γ) l1), (2, vI l2), (3, vI l3)] [] (b_X22_bit_17b rc k_99 l0 l1 l2 l3) := by
  unfold b_X22_bit_17b
  refine s_iload_n o dX22_bit_17 rfl 3 rfl ?_
  refine s_aload_n o dX22_bit_18 rfl 0 rfl ?_
  refine r_getf (vA (mg Γ)) rfl o cf_X22_parts0 (Or.inl (lw_all_tbl q1499)) dX22_bit_19 (fun v1 hv1 => ?_)
  refine s_alen o dX22_bit_22 (fun v2 hv2 => ?_)
  refine s_icmp_ge (tgt := 99) o dX22_bit_23 (by decide) hl3 (rN hv2) ?_ ?_
  · refine r_to [(2, vI l2)] [2] rfl ?_
    exact s_lo (hk_99 l2 hl2)
  · refine s_aload_n o dX22_bit_26 rfl 0 rfl ?_
    refine r_getf (vA (mg Γ)) rfl o cf_X22_bound (Or.inl (lw_all_tbl q1498)) dX22_bit_27 (fun v3 hv3 => ?_)
    refine s_iload_n o dX22_bit_30 rfl 3 rfl ?_
    refine r_aald (kd := 9) o (by decide) rfl hl3 dX22_bit_31 (fun v4 => ?_)
    refine r_astore o dX22_bit_32 rfl ⟨(Nat.ne_of_beq_eq_false rfl), (fun _ => (vA_cat (mg Γ) l0)), ⟨(Nat.ne_of_beq_eq_false rfl), (fun _ => (vA_cat (mg Γ) l1)), ⟨(Nat.ne_of_beq_eq_false rfl), (fun _ => rfl), ⟨(Nat.ne_of_beq_eq_false rfl), (fun _ => rfl), trivial⟩⟩⟩⟩ ?_
    refine s_aload o dX22_bit_34 0 rfl ?_
    refine s_alen o dX22_bit_36 (fun v5 hv5 => ?_)
    refine r_istore o dX22_bit_37 rfl ⟨(Nat.ne_of_beq_eq_false rfl), (fun _ => (vA_cat (mg Γ) v4)), ⟨(Nat.ne_of_beq_eq_false rfl), (fun _ => (vA_cat (mg Γ) l0)), ⟨(Nat.ne_of_beq_eq_false rfl), (fun _ => (vA_cat (mg Γ) l1)), ⟨(Nat.ne_of_beq_eq_false rfl), (fun _ => rfl), ⟨(Nat.ne_of_beq_eq_false rfl), (fun _ => rfl), trivial⟩⟩⟩⟩⟩ ?_
    refine s_iconst o dX22_bit_39 ?_
    refine r_istore o dX22_bit_40 rfl ⟨(Nat.ne_of_beq_eq_false rfl), (fun _ => rfl), ⟨(Nat.ne_of_beq_eq_false rfl), (fun _ => (vA_cat (mg Γ) v4)), ⟨(Nat.ne_of_beq_eq_false rfl), (fun _ => (vA_cat (mg Γ) l0)), ⟨(Nat.ne_of_beq_eq_false rfl), (fun _ => (vA_cat (mg Γ) l1)), ⟨(Nat.ne_of_beq_eq_false rfl), (fun _ => rfl), ⟨(Nat.ne_of_beq_eq_false rfl), (fun _ => rfl), trivial⟩⟩⟩⟩⟩⟩ ?_
    refine r_to [(0, vA (mg Γ) l0), (1, vA (mg Γ) l1), (2, vI l2), (3, vI l3), (4, vA (mg Γ) v4), (5, vI v5), (6, vI 0)] [3, 4, 5, 6, 2, 1, 0] rfl ?_
    refine sb_X22_bit_42 hr o _ ?_ l0 l1 l2 l3 v4 v5 0 hl2 hl3 (rN hv5) (r32 rfl)
    · intro v6 v7 v8 v9 hv8 hv9
      refine s_aload_n o dX22_bit_70 rfl 0 rfl ?_
      refine r_getf (vA (mg Γ)) rfl o cf_X22_parts0 (Or.inl (lw_all_tbl q1499)) dX22_bit_71 (fun v10 hv10 => ?_)
      refine s_iload_n o dX22_bit_74 rfl 3 rfl ?_
      refine r_aald (kd := 5) o (by decide) rfl hv9 dX22_bit_75 (fun v11 => ?_)
      refine s_aload_n o dX22_bit_76 rfl 1 rfl ?_
      refine s_cu (d := d + 3) (As := [vA (mg Γ) v7]) (st := []) (owner := "LazyForge$Part") o (gr_bit_0 hr v11 v7) rfl (lw_all_tbl q1706) (lw_all_tbl q1695) (Or.inl q1694) ⟨by decide, by decide⟩ (by decide +kernel) wt_0 rfl dX22_bit_77 rfl (rs := fun r => [vI r]) (fun _ => rfl) (fun v12 hv12 => ?_)
      refine s_if_ne (tgt := 87) o dX22_bit_80 (by decide) (rZ (hv12 _ rfl)) ?_ ?_
      · refine r_to [(0, vA (mg Γ) v6), (1, vA (mg Γ) v7), (3, vI v9)] [0, 1, 3] rfl ?_
        exact sb_X22_bit_87 hr o k_99 hk_99 v6 v7 v9 hv9
      · refine s_iload_n o dX22_bit_83 rfl 2 rfl ?_
        refine s_if_eq (tgt := 91) o dX22_bit_84 (by decide) (rZ hv8) ?_ ?_
        · refine s_iconst o dX22_bit_91 ?_
          refine r_to [(0, vA (mg Γ) v6), (1, vA (mg Γ) v7), (3, vI v9)] [0, 1, 3] rfl ?_
          exact sb_X22_bit_92 hr o k_99 hk_99 v6 v7 v9 0 hv9 (Or.inl rfl)
        · refine r_to [(0, vA (mg Γ) v6), (1, vA (mg Γ) v7), (3, vI v9)] [0, 1, 3] rfl ?_
          exact sb_X22_bit_87 hr o k_99 hk_99 v6 v7 v9 hv9
noncomputable def b_X22_bit_17 (rc : Rc) {A : Type} (k_99 : Int → Mo CH A) (l0 : Int) (l1 : Int) (l2 : Int) (l3 : Int) : Mo CH A := Loop (fun x => b_X22_bit_17b rc k_99 x.1 x.2.1 x.2.2.1 x.2.2.2) (l0, l1, l2, l3)
theorem sb_X22_bit_17 {Γ : Gm} {ts : TS} {d : Nat} {rc : Rc} (hr : GR_bit (mg Γ) ts (d + 3) rc) (o : Ok Γ "LazyForge$Case" cX22_bit 8 (Option.some Jvm.ClassFile.FieldType.boolean) (d + 4)) {A : Type} {K : A → CH → Prop} (k_99 : Int → Mo CH A) (hk_99 : ∀ (l2 : Int), rg .boolean l2 → Sx Γ (fun h => (h, ts)) K 99 [(2, vI l2)] [] (k_99 l2)) (l0 : Int) (l1 : Int) (l2 : Int) (l3 : Int) (hl2 : rg .boolean l2) (hl3 : R32 l3) : Sx Γ (fun h => (h, ts)) K 17 [(0, vA (mg Γ) l0), (1, vA (mg Γ) l1), (2, vI l2), (3, vI l3)] [] (b_X22_bit_17 rc k_99 l0 l1 l2 l3) :=
  s_loop okb_X22_bit_17 (lvb_X22_bit_17 Γ) (fun x hx => sb_X22_bit_17b hr o k_99 hk_99 x.1 x.2.1 x.2.2.1 x.2.2.2 hx.1 hx.2) (x := (l0, l1, l2, l3)) ⟨hl2, hl3⟩
noncomputable def b_X22_bit (rc : Rc) (l0 : Int) (l1 : Int) : Mo CH Int :=
  bnd (gf [122] 5 l0) fun v1 =>
  bnd (rc 0 v1 l1 0 0 0) fun v2 =>
  if ¬ v2 = 0 then
    b_X22_bit_17 rc
      (fun v3 => pr v3) l0 l1 0 0
  else
    pr 0
theorem sb_X22_bit (g : gC) (d : Nat) (ts : TS) (rc : Rc) (hr : GR_bit g ts (d + 3) rc) (l0 : Int) (l1 : Int) : SF g yX22_bit (Cond.code yX22_bit cX22_bit 8 (Option.some Jvm.ClassFile.FieldType.boolean)) (Option.some Jvm.ClassFile.FieldType.boolean) (d + 4) [vA g l0, vA g l1] (fun h => (h, ts)) (b_X22_bit rc l0 l1) := by
  refine SF.of (lv := [(0, vA g l0), (1, vA g l1)]) (by decide) (wt_A (wt_A wt_0)) rfl (by simp only [la_A, la_I, la_J, la_0]) (fun Γ hg hnm o => ?_)
  subst hg
  have o : Ok Γ "LazyForge$Case" cX22_bit 8 (Option.some Jvm.ClassFile.FieldType.boolean) (d + 4) := o
  unfold b_X22_bit
  refine s_aload_n o dX22_bit_0 rfl 0 rfl ?_
  refine r_getf (vA (mg Γ)) rfl o cf_X22_of (Or.inl (lw_all_tbl q1495)) dX22_bit_1 (fun v1 hv1 => ?_)
  refine s_aload_n o dX22_bit_4 rfl 1 rfl ?_
  refine s_cu (d := d + 3) (As := [vA (mg Γ) l1]) (st := []) (owner := "LazyForge$Part") o (gr_bit_0 hr v1 l1) rfl (lw_all_tbl q1706) (lw_all_tbl q1695) (Or.inl q1694) ⟨by decide, by decide⟩ (by decide +kernel) wt_0 rfl dX22_bit_5 rfl (rs := fun r => [vI r]) (fun _ => rfl) (fun v2 hv2 => ?_)
  refine s_if_ne (tgt := 13) o dX22_bit_8 (by decide) (rZ (hv2 _ rfl)) ?_ ?_
  · refine s_iconst o dX22_bit_13 ?_
    refine r_istore_n o dX22_bit_14 rfl rfl ⟨(Nat.ne_of_beq_eq_false rfl), (fun _ => (vA_cat (mg Γ) l0)), ⟨(Nat.ne_of_beq_eq_false rfl), (fun _ => (vA_cat (mg Γ) l1)), trivial⟩⟩ ?_
    refine s_iconst o dX22_bit_15 ?_
    refine r_istore_n o dX22_bit_16 rfl rfl ⟨(Nat.ne_of_beq_eq_false rfl), (fun _ => rfl), ⟨(Nat.ne_of_beq_eq_false rfl), (fun _ => (vA_cat (mg Γ) l0)), ⟨(Nat.ne_of_beq_eq_false rfl), (fun _ => (vA_cat (mg Γ) l1)), trivial⟩⟩⟩ ?_
    refine r_to [(0, vA (mg Γ) l0), (1, vA (mg Γ) l1), (2, vI 0), (3, vI 0)] [2, 3, 1, 0] rfl ?_
    refine sb_X22_bit_17 hr o _ ?_ l0 l1 0 0 (Or.inl rfl) (r32 rfl)
    · intro v3 hv3
      refine s_iload_n o dX22_bit_99 rfl 0 rfl ?_
      exact s_iret o rfl i_boolean hv3 dX22_bit_100 (fun _ hh => hh)
  · refine s_iconst o dX22_bit_11 ?_
    exact s_iret o rfl i_boolean (Or.inl rfl) dX22_bit_12 (fun _ hh => hh)
abbrev okb_X21_bit_52 (x : Int × Int × Int × Int × Int × Int) : Prop := R32 x.2.2.2.1 ∧ R32 x.2.2.2.2.1 ∧ R32 x.2.2.2.2.2
abbrev lvb_X21_bit_52 (Γ : Gm) (x : Int × Int × Int × Int × Int × Int) : List (Nat × Value) := [(0, vA (mg Γ) x.1), (1, vA (mg Γ) x.2.1), (2, vA (mg Γ) x.2.2.1), (3, vI x.2.2.2.1), (4, vI x.2.2.2.2.1), (5, vI x.2.2.2.2.2)]
noncomputable def b_X21_bit_82 (rc : Rc) {A : Type} (k_91 : Int → Int → Mo CH A) (l0 : Int) (l1 : Int) (l2 : Int) (l3 : Int) (l5 : Int) (k0 : Int) (k1 : Int) : Mo CH ((Int × Int × Int × Int × Int × Int) ⊕ A) :=
  pr (.inl (l0, l1, l2, l3, (ior k1 k0), (w32 (l5 + 1))))
theorem sb_X21_bit_82 {Γ : Gm} {ts : TS} {d : Nat} {rc : Rc} (hr : GR_bit (mg Γ) ts (d + 3) rc) (o : Ok Γ "LazyForge$Apply" cX21_bit 6 (Option.some Jvm.ClassFile.FieldType.boolean) (d + 4)) {A : Type} {K : A → CH → Prop}  (k_91 : Int → Int → Mo CH A) (hk_91 : ∀ (l2 : Int) (l4 : Int), R32 l4 → Sx Γ (fun h => (h, ts)) K 91 [(2, vA (mg Γ) l2), (4, vI l4)] [] (k_91 l2 l4)) (l0 : Int) (l1 : Int) (l2 : Int) (l3 : Int) (l5 : Int) (k0 : Int) (k1 : Int) (hl3 : R32 l3) (hl5 : R32 l5) (hk0 : R32 k0) (hk1 : R32 k1) : Sx Γ (fun h => (h, ts)) (KL Γ (fun h => (h, ts)) okb_X21_bit_52 K 52 (lvb_X21_bit_52 Γ) []) 82 [(0, vA (mg Γ) l0), (1, vA (mg Γ) l1), (2, vA (mg Γ) l2), (3, vI l3), (5, vI l5)] [vI k0, vI k1] (b_X21_bit_82 rc k_91 l0 l1 l2 l3 l5 k0 k1) := by
  unfold b_X21_bit_82
  refine s_ior o dX21_bit_82 ?_
  refine r_istore o dX21_bit_83 rfl ⟨(Nat.ne_of_beq_eq_false rfl), (fun _ => (vA_cat (mg Γ) l0)), ⟨(Nat.ne_of_beq_eq_false rfl), (fun _ => (vA_cat (mg Γ) l1)), ⟨(Nat.ne_of_beq_eq_false rfl), (fun _ => (vA_cat (mg Γ) l2)), ⟨(Nat.ne_of_beq_eq_false rfl), (fun _ => rfl), ⟨(Nat.ne_of_beq_eq_false rfl), (fun _ => rfl), trivial⟩⟩⟩⟩⟩ ?_
  refine r_iinc (j := 5) o dX21_bit_85 rfl rfl [(4, vI (ior k1 k0)), (0, vA (mg Γ) l0), (1, vA (mg Γ) l1), (2, vA (mg Γ) l2), (3, vI l3)] [0, 1, 2, 3, 4] rfl ⟨(Nat.ne_of_beq_eq_false rfl), (fun _ => rfl), ⟨(Nat.ne_of_beq_eq_false rfl), (fun _ => (vA_cat (mg Γ) l0)), ⟨(Nat.ne_of_beq_eq_false rfl), (fun _ => (vA_cat (mg Γ) l1)), ⟨(Nat.ne_of_beq_eq_false rfl), (fun _ => (vA_cat (mg Γ) l2)), ⟨(Nat.ne_of_beq_eq_false rfl), (fun _ => rfl), trivial⟩⟩⟩⟩⟩ ?_
  refine s_goto (tgt := 52) o dX21_bit_88 (by decide) ?_
  refine r_to [(0, vA (mg Γ) l0), (1, vA (mg Γ) l1), (2, vA (mg Γ) l2), (3, vI l3), (4, vI (ior k1 k0)), (5, vI (w32 (l5 + 1)))] [2, 3, 4, 5, 1, 0] rfl ?_
  exact s_back (⟨hl3, (ior_R _ _), (w32_R _)⟩) rfl
noncomputable def b_X21_bit_52b (rc : Rc) {A : Type} (k_91 : Int → Int → Mo CH A) (l0 : Int) (l1 : Int) (l2 : Int) (l3 : Int) (l4 : Int) (l5 : Int) : Mo CH ((Int × Int × Int × Int × Int × Int) ⊕ A) :=
  if l3 ≤ l5 then
    lo (k_91 l2 l4)
  else
    bnd (gf [121] 6 l0) fun v1 =>
    bnd (ald 5 v1 l5) fun v2 =>
    bnd (rc 0 v2 l1 0 0 0) fun v3 =>
    if v3 = 0 then
      b_X21_bit_82 rc k_91 l0 l1 l2 l3 l5 0 l4
    else
      b_X21_bit_82 rc k_91 l0 l1 l2 l3 l5 (ishl 1 l5) l4
theorem sb_X21_bit_52b {Γ : Gm} {ts : TS} {d : Nat} {rc : Rc} (hr : GR_bit (mg Γ) ts (d + 3) rc) (o : Ok Γ "LazyForge$Apply" cX21_bit 6 (Option.some Jvm.ClassFile.FieldType.boolean) (d + 4)) {A : Type} {K : A → CH → Prop} (k_91 : Int → Int → Mo CH A) (hk_91 : ∀ (l2 : Int) (l4 : Int), R32 l4 → Sx Γ (fun h => (h, ts)) K 91 [(2, vA (mg Γ) l2), (4, vI l4)] [] (k_91 l2 l4)) (l0 : Int) (l1 : Int) (l2 : Int) (l3 : Int) (l4 : Int) (l5 : Int) (hl3 : R32 l3) (hl4 : R32 l4) (hl5 : R32 l5) : Sx Γ (fun h => (h, ts)) (KL Γ (fun h => (h, ts)) okb_X21_bit_52 K 52 (lvb_X21_bit_52 Γ) []) 52 [(0, vA (mg Γ) l0), (1, vA (mg Γ) l1), (2, vA (mg Γ) l2), (3, vI l3), (4, vI l4), (5, vI l5)] [] (b_X21_bit_52b rc k_91 l0 l1 l2 l3 l4 l5) := by
  unfold b_X21_bit_52b
  refine s_iload o dX21_bit_52 5 rfl ?_
  refine s_iload_n o dX21_bit_54 rfl 3 rfl ?_
  refine s_icmp_ge (tgt := 91) o dX21_bit_55 (by decide) hl5 hl3 ?_ ?_
  · refine r_to [(2, vA (mg Γ) l2), (4, vI l4)] [2, 4] rfl ?_
    exact s_lo (hk_91 l2 l4 hl4)
  · refine s_iload o dX21_bit_58 4 rfl ?_
    refine s_aload_n o dX21_bit_60 rfl 0 rfl ?_
    refine r_getf (vA (mg Γ)) rfl o cf_X21_arguments (Or.inl (lw_all_tbl q1469)) dX21_bit_61 (fun v1 hv1 => ?_)
    refine s_iload o dX21_bit_64 5 rfl ?_
    refine r_aald (kd := 5) o (by decide) rfl hl5 dX21_bit_66 (fun v2 => ?_)
    refine s_aload_n o dX21_bit_67 rfl 1 rfl ?_
    refine s_cu (d := d + 3) (As := [vA (mg Γ) l1]) (st := [vI l4]) (owner := "LazyForge$Part") o (gr_bit_0 hr v2 l1) rfl (lw_all_tbl q1703) (lw_all_tbl q1695) (Or.inl q1694) ⟨by decide, by decide⟩ (by decide +kernel) (wt_I wt_0) rfl dX21_bit_68 rfl (rs := fun r => [vI r, vI l4]) (fun _ => rfl) (fun v3 hv3 => ?_)
    refine s_if_eq (tgt := 81) o dX21_bit_71 (by decide) (rZ (hv3 _ rfl)) ?_ ?_
    · refine s_iconst o dX21_bit_81 ?_
      refine r_to [(0, vA (mg Γ) l0), (1, vA (mg Γ) l1), (2, vA (mg Γ) l2), (3, vI l3), (5, vI l5)] [0, 1, 2, 3, 5] rfl ?_
      exact sb_X21_bit_82 hr o k_91 hk_91 l0 l1 l2 l3 l5 0 l4 hl3 hl5 (r32 rfl) hl4
    · refine s_iconst o dX21_bit_74 ?_
      refine s_iload o dX21_bit_75 5 rfl ?_
      refine s_ishl o dX21_bit_77 ?_
      refine s_goto (tgt := 82) o dX21_bit_78 (by decide) ?_
      refine r_to [(0, vA (mg Γ) l0), (1, vA (mg Γ) l1), (2, vA (mg Γ) l2), (3, vI l3), (5, vI l5)] [0, 1, 2, 3, 5] rfl ?_
      exact sb_X21_bit_82 hr o k_91 hk_91 l0 l1 l2 l3 l5 (ishl 1 l5) l4 hl3 hl5 (ishl_R _ _) hl4
noncomputable def b_X21_bit_52 (rc : Rc) {A : Type} (k_91 : Int → Int → Mo CH A) (l0 : Int) (l1 : Int) (l2 : Int) (l3 : Int) (l4 : Int) (l5 : Int) : Mo CH A := Loop (fun x => b_X21_bit_52b rc k_91 x.1 x.2.1 x.2.2.1 x.2.2.2.1 x.2.2.2.2.1 x.2.2.2.2.2) (l0, l1, l2, l3, l4, l5)
theorem sb_X21_bit_52 {Γ : Gm} {ts : TS} {d : Nat} {rc : Rc} (hr : GR_bit (mg Γ) ts (d + 3) rc) (o : Ok Γ "LazyForge$Apply" cX21_bit 6 (Option.some Jvm.ClassFile.FieldType.boolean) (d + 4)) {A : Type} {K : A → CH → Prop} (k_91 : Int → Int → Mo CH A) (hk_91 : ∀ (l2 : Int) (l4 : Int), R32 l4 → Sx Γ (fun h => (h, ts)) K 91 [(2, vA (mg Γ) l2), (4, vI l4)] [] (k_91 l2 l4)) (l0 : Int) (l1 : Int) (l2 : Int) (l3 : Int) (l4 : Int) (l5 : Int) (hl3 : R32 l3) (hl4 : R32 l4) (hl5 : R32 l5) : Sx Γ (fun h => (h, ts)) K 52 [(0, vA (mg Γ) l0), (1, vA (mg Γ) l1), (2, vA (mg Γ) l2), (3, vI l3), (4, vI l4), (5, vI l5)] [] (b_X21_bit_52 rc k_91 l0 l1 l2 l3 l4 l5) :=
  s_loop okb_X21_bit_52 (lvb_X21_bit_52 Γ) (fun x hx => sb_X21_bit_52b hr o k_91 hk_91 x.1 x.2.1 x.2.2.1 x.2.2.2.1 x.2.2.2.2.1 x.2.2.2.2.2 hx.1 hx.2.1 hx.2.2) (x := (l0, l1, l2, l3, l4, l5)) ⟨hl3, hl4, hl5⟩
noncomputable def b_X21_bit (rc : Rc) (l0 : Int) (l1 : Int) : Mo CH Int :=
  bnd (gf [121] 5 l0) fun v1 =>
  bnd (ins 119 [118, 119, 120, 121, 122, 123, 124, 125, 126] v1) fun v2 =>
  if ¬ v2 = 0 then
    bnd (gf [121] 5 l0) fun v3 =>
    bnd (ckk [119] v3) fun _ =>
    bnd (gf [119] 5 v3) fun v4 =>
    bnd (isk 116 v4) fun _ =>
    bnd (c_X16_parameters v4) fun v5 =>
    bnd (gf [121] 6 l0) fun v6 =>
    bnd (aln v6) fun v7 =>
    if v5 ≤ v7 then
      b_X21_bit_52 rc
        (fun v8 v9 => bnd (isk 116 v8) fun _ =>
      bnd (c_X16_at v8 v9) fun v10 =>
      pr v10) l0 l1 v4 v5 0 0
    else
      pr 1
  else
    bnd (gf [121] 5 l0) fun v11 =>
    bnd (rc 0 v11 l1 0 0 0) fun v12 =>
    pr v12
theorem sb_X21_bit (g : gC) (d : Nat) (ts : TS) (rc : Rc) (hr : GR_bit g ts (d + 3) rc) (l0 : Int) (l1 : Int) : SF g yX21_bit (Cond.code yX21_bit cX21_bit 6 (Option.some Jvm.ClassFile.FieldType.boolean)) (Option.some Jvm.ClassFile.FieldType.boolean) (d + 4) [vA g l0, vA g l1] (fun h => (h, ts)) (b_X21_bit rc l0 l1) := by
  refine SF.of (lv := [(0, vA g l0), (1, vA g l1)]) (by decide) (wt_A (wt_A wt_0)) rfl (by simp only [la_A, la_I, la_J, la_0]) (fun Γ hg hnm o => ?_)
  subst hg
  have o : Ok Γ "LazyForge$Apply" cX21_bit 6 (Option.some Jvm.ClassFile.FieldType.boolean) (d + 4) := o
  unfold b_X21_bit
  refine s_aload_n o dX21_bit_0 rfl 0 rfl ?_
  refine r_getf (vA (mg Γ)) rfl o cf_X21_head (Or.inl (lw_all_tbl q1468)) dX21_bit_1 (fun v1 hv1 => ?_)
  refine s_inst o (is_X19 o) (lw_all_tbl q1702) dX21_bit_4 (fun v2 hv2 => ?_)
  refine s_if_ne (tgt := 19) o dX21_bit_7 (by decide) (rZ hv2) ?_ ?_
  · refine s_aload_n o dX21_bit_19 rfl 0 rfl ?_
    refine r_getf (vA (mg Γ)) rfl o cf_X21_head (Or.inl (lw_all_tbl q1468)) dX21_bit_20 (fun v3 hv3 => ?_)
    refine s_cast o (cs_X19 o) (lw_all_tbl q1702) dX21_bit_23 ?_
    refine r_getf (vA (mg Γ)) rfl o cf_X19_function (Or.inr (Or.inl ⟨_, q1368⟩)) dX21_bit_26 (fun v4 hv4 => ?_)
    refine r_astore_n o dX21_bit_29 rfl rfl ⟨(Nat.ne_of_beq_eq_false rfl), (fun _ => (vA_cat (mg Γ) l0)), ⟨(Nat.ne_of_beq_eq_false rfl), (fun _ => (vA_cat (mg Γ) l1)), trivial⟩⟩ ?_
    refine s_aload_n o dX21_bit_30 rfl 0 rfl ?_
    refine s_cvC (d := d + 3) (As := []) (st := []) (c := 16) o (sc_X16_parameters (mg Γ) (d + 2) ts v4) mw_X16_parameters rfl (Or.inl (lw_all_tbl q1729)) rfl (lw_all_tbl q1606) (lw_all_tbl q1605) wt_0 rfl dX21_bit_31 rfl (rs := fun r => [vI r]) (fun _ => rfl) (fun v5 hv5 => ?_)
    refine r_istore_n o dX21_bit_34 rfl rfl ⟨(Nat.ne_of_beq_eq_false rfl), (fun _ => (vA_cat (mg Γ) v4)), ⟨(Nat.ne_of_beq_eq_false rfl), (fun _ => (vA_cat (mg Γ) l0)), ⟨(Nat.ne_of_beq_eq_false rfl), (fun _ => (vA_cat (mg Γ) l1)), trivial⟩⟩⟩ ?_
    refine s_iconst o dX21_bit_35 ?_
    refine r_istore o dX21_bit_36 rfl ⟨(Nat.ne_of_beq_eq_false rfl), (fun _ => rfl), ⟨(Nat.ne_of_beq_eq_false rfl), (fun _ => (vA_cat (mg Γ) v4)), ⟨(Nat.ne_of_beq_eq_false rfl), (fun _ => (vA_cat (mg Γ) l0)), ⟨(Nat.ne_of_beq_eq_false rfl), (fun _ => (vA_cat (mg Γ) l1)), trivial⟩⟩⟩⟩ ?_
    refine s_aload_n o dX21_bit_38 rfl 3 rfl ?_
    refine r_getf (vA (mg Γ)) rfl o cf_X21_arguments (Or.inl (lw_all_tbl q1469)) dX21_bit_39 (fun v6 hv6 => ?_)
    refine s_alen o dX21_bit_42 (fun v7 hv7 => ?_)
    refine s_iload_n o dX21_bit_43 rfl 1 rfl ?_
    refine s_icmp_ge (tgt := 49) o dX21_bit_44 (by decide) (rN hv7) (hv5 _ rfl) ?_ ?_
    · refine s_iconst o dX21_bit_49 ?_
      refine r_istore o dX21_bit_50 rfl ⟨(Nat.ne_of_beq_eq_false rfl), (fun _ => rfl), ⟨(Nat.ne_of_beq_eq_false rfl), (fun _ => rfl), ⟨(Nat.ne_of_beq_eq_false rfl), (fun _ => (vA_cat (mg Γ) v4)), ⟨(Nat.ne_of_beq_eq_false rfl), (fun _ => (vA_cat (mg Γ) l0)), ⟨(Nat.ne_of_beq_eq_false rfl), (fun _ => (vA_cat (mg Γ) l1)), trivial⟩⟩⟩⟩⟩ ?_
      refine r_to [(0, vA (mg Γ) l0), (1, vA (mg Γ) l1), (2, vA (mg Γ) v4), (3, vI v5), (4, vI 0), (5, vI 0)] [4, 5, 3, 2, 1, 0] rfl ?_
      refine sb_X21_bit_52 hr o _ ?_ l0 l1 v4 v5 0 0 (hv5 _ rfl) (r32 rfl) (r32 rfl)
      · intro v8 v9 hv9
        refine s_aload_n o dX21_bit_91 rfl 0 rfl ?_
        refine s_iload o dX21_bit_92 1 rfl ?_
        refine s_cvC (d := d + 3) (As := [vI v9]) (st := []) (c := 16) o (sc_X16_at (mg Γ) (d + 3) ts v8 v9 hv9) mw_X16_at rfl (Or.inl (lw_all_tbl q1730)) rfl (lw_all_tbl q1640) (lw_all_tbl q1639) wt_0 rfl dX21_bit_94 rfl (rs := fun r => [vI r]) (fun _ => rfl) (fun v10 hv10 => ?_)
        exact s_iret o rfl i_boolean (hv10 _ rfl) dX21_bit_97 (fun _ hh => hh)
    · refine s_iconst o dX21_bit_47 ?_
      exact s_iret o rfl i_boolean (Or.inr rfl) dX21_bit_48 (fun _ hh => hh)
  · refine s_aload_n o dX21_bit_10 rfl 0 rfl ?_
    refine r_getf (vA (mg Γ)) rfl o cf_X21_head (Or.inl (lw_all_tbl q1468)) dX21_bit_11 (fun v11 hv11 => ?_)
    refine s_aload_n o dX21_bit_14 rfl 1 rfl ?_
    refine s_cu (d := d + 3) (As := [vA (mg Γ) l1]) (st := []) (owner := "LazyForge$Part") o (gr_bit_0 hr v11 l1) rfl (lw_all_tbl q1703) (lw_all_tbl q1695) (Or.inl q1694) ⟨by decide, by decide⟩ (by decide +kernel) wt_0 rfl dX21_bit_15 rfl (rs := fun r => [vI r]) (fun _ => rfl) (fun v12 hv12 => ?_)
    exact s_iret o rfl i_boolean (hv12 _ rfl) dX21_bit_18 (fun _ hh => hh)
abbrev okb_X18_bit_2 (x : Int × Int × Int) : Prop := R32 x.2.2
abbrev lvb_X18_bit_2 (Γ : Gm) (x : Int × Int × Int) : List (Nat × Value) := [(0, vA (mg Γ) x.1), (1, vA (mg Γ) x.2.1), (2, vI x.2.2)]
noncomputable def b_X18_bit_54 (rc : Rc) {A : Type} (k_60 : Int → Int → Mo CH A) (l0 : Int) (l1 : Int) (l2 : Int) : Mo CH ((Int × Int × Int) ⊕ A) :=
  pr (.inl (l0, l1, (w32 (l2 + 1))))
theorem sb_X18_bit_54 {Γ : Gm} {ts : TS} {d : Nat} {rc : Rc} (hr : GR_bit (mg Γ) ts (d + 3) rc) (o : Ok Γ "LazyForge$Let" cX18_bit 4 (Option.some Jvm.ClassFile.FieldType.boolean) (d + 4)) {A : Type} {K : A → CH → Prop}  (k_60 : Int → Int → Mo CH A) (hk_60 : ∀ (l0 : Int) (l1 : Int), Sx Γ (fun h => (h, ts)) K 60 [(0, vA (mg Γ) l0), (1, vA (mg Γ) l1)] [] (k_60 l0 l1)) (l0 : Int) (l1 : Int) (l2 : Int) (hl2 : R32 l2) : Sx Γ (fun h => (h, ts)) (KL Γ (fun h => (h, ts)) okb_X18_bit_2 K 2 (lvb_X18_bit_2 Γ) []) 54 [(0, vA (mg Γ) l0), (1, vA (mg Γ) l1), (2, vI l2)] [] (b_X18_bit_54 rc k_60 l0 l1 l2) := by
  unfold b_X18_bit_54
  refine r_iinc (j := 2) o dX18_bit_54 rfl rfl [(0, vA (mg Γ) l0), (1, vA (mg Γ) l1)] [0, 1] rfl ⟨(Nat.ne_of_beq_eq_false rfl), (fun _ => (vA_cat (mg Γ) l0)), ⟨(Nat.ne_of_beq_eq_false rfl), (fun _ => (vA_cat (mg Γ) l1)), trivial⟩⟩ ?_
  refine s_goto (tgt := 2) o dX18_bit_57 (by decide) ?_
  refine r_to [(0, vA (mg Γ) l0), (1, vA (mg Γ) l1), (2, vI (w32 (l2 + 1)))] [1, 2, 0] rfl ?_
  exact s_back (w32_R _) rfl
noncomputable def b_X18_bit_2b (rc : Rc) {A : Type} (k_60 : Int → Int → Mo CH A) (l0 : Int) (l1 : Int) (l2 : Int) : Mo CH ((Int × Int × Int) ⊕ A) :=
  bnd (gf [118] 5 l0) fun v1 =>
  bnd (aln v1) fun v2 =>
  if v2 ≤ l2 then
    lo (k_60 l0 l1)
  else
    bnd (gf [118] 5 l0) fun v3 =>
    bnd (ald 7 v3 l2) fun v4 =>
    bnd (gf [117] 1 v4) fun v5 =>
    bnd (gf [118] 6 l0) fun v6 =>
    bnd (ald 5 v6 l2) fun v7 =>
    bnd (rc 0 v7 l1 0 0 0) fun v8 =>
    if v8 = 0 then
      b_X18_bit_54 rc k_60 l0 l1 l2
    else
      bnd (ald 3 l1 v5) fun v9 =>
      if v9 = 0 then
        bnd (ast 3 l1 v5 1) fun _ =>
        bnd (aln l1) fun v10 =>
        bnd (ast 3 l1 (w32 (v10 - 1)) 1) fun _ =>
        b_X18_bit_54 rc k_60 l0 l1 l2
      else
        b_X18_bit_54 rc k_60 l0 l1 l2
theorem sb_X18_bit_2b {Γ : Gm} {ts : TS} {d : Nat} {rc : Rc} (hr : GR_bit (mg Γ) ts (d + 3) rc) (o : Ok Γ "LazyForge$Let" cX18_bit 4 (Option.some Jvm.ClassFile.FieldType.boolean) (d + 4)) {A : Type} {K : A → CH → Prop} (k_60 : Int → Int → Mo CH A) (hk_60 : ∀ (l0 : Int) (l1 : Int), Sx Γ (fun h => (h, ts)) K 60 [(0, vA (mg Γ) l0), (1, vA (mg Γ) l1)] [] (k_60 l0 l1)) (l0 : Int) (l1 : Int) (l2 : Int) (hl2 : R32 l2) : Sx Γ (fun h => (h, ts)) (KL Γ (fun h => (h, ts)) okb_X18_bit_2 K 2 (lvb_X18_bit_2 Γ) []) 2 [(0, vA (mg Γ) l0), (1, vA (mg Γ) l1), (2, vI l2)] [] (b_X18_bit_2b rc k_60 l0 l1 l2) := by
  unfold b_X18_bit_2b
  refine s_iload_n o dX18_bit_2 rfl 2 rfl ?_
  refine s_aload_n o dX18_bit_3 rfl 0 rfl ?_
  refine r_getf (vA (mg Γ)) rfl o cf_X18_names (Or.inl (lw_all_tbl q1335)) dX18_bit_4 (fun v1 hv1 => ?_)
  refine s_alen o dX18_bit_7 (fun v2 hv2 => ?_)
  refine s_icmp_ge (tgt := 60) o dX18_bit_8 (by decide) hl2 (rN hv2) ?_ ?_
  · refine r_to [(0, vA (mg Γ) l0), (1, vA (mg Γ) l1)] [0, 1] rfl ?_
    exact s_lo (hk_60 l0 l1)
  · refine s_aload_n o dX18_bit_11 rfl 0 rfl ?_
    refine r_getf (vA (mg Γ)) rfl o cf_X18_names (Or.inl (lw_all_tbl q1335)) dX18_bit_12 (fun v3 hv3 => ?_)
    refine s_iload_n o dX18_bit_15 rfl 2 rfl ?_
    refine r_aald (kd := 7) o (by decide) rfl hl2 dX18_bit_16 (fun v4 => ?_)
    refine r_getf vI rfl o cf_X17_number (Or.inr (Or.inl ⟨_, q1290⟩)) dX18_bit_17 (fun v5 hv5 => ?_)
    refine r_istore_n o dX18_bit_20 rfl rfl ⟨(Nat.ne_of_beq_eq_false rfl), (fun _ => (vA_cat (mg Γ) l0)), ⟨(Nat.ne_of_beq_eq_false rfl), (fun _ => (vA_cat (mg Γ) l1)), ⟨(Nat.ne_of_beq_eq_false rfl), (fun _ => rfl), trivial⟩⟩⟩ ?_
    refine s_aload_n o dX18_bit_21 rfl 1 rfl ?_
    refine r_getf (vA (mg Γ)) rfl o cf_X18_bound (Or.inl (lw_all_tbl q1336)) dX18_bit_22 (fun v6 hv6 => ?_)
    refine s_iload_n o dX18_bit_25 rfl 3 rfl ?_
    refine r_aald (kd := 5) o (by decide) rfl hl2 dX18_bit_26 (fun v7 => ?_)
    refine s_aload_n o dX18_bit_27 rfl 2 rfl ?_
    refine s_cu (d := d + 3) (As := [vA (mg Γ) l1]) (st := []) (owner := "LazyForge$Part") o (gr_bit_0 hr v7 l1) rfl (lw_all_tbl q1711) (lw_all_tbl q1695) (Or.inl q1694) ⟨by decide, by decide⟩ (by decide +kernel) wt_0 rfl dX18_bit_28 rfl (rs := fun r => [vI r]) (fun _ => rfl) (fun v8 hv8 => ?_)
    refine s_if_eq (tgt := 54) o dX18_bit_31 (by decide) (rZ (hv8 _ rfl)) ?_ ?_
    · refine r_to [(0, vA (mg Γ) l0), (1, vA (mg Γ) l1), (2, vI l2)] [1, 2, 3] rfl ?_
      exact sb_X18_bit_54 hr o k_60 hk_60 l0 l1 l2 hl2
    · refine s_aload_n o dX18_bit_34 rfl 2 rfl ?_
      refine s_iload_n o dX18_bit_35 rfl 0 rfl ?_
      refine r_zald o hv5 dX18_bit_36 (fun v9 hv9 => ?_)
      refine s_if_eq (tgt := 43) o dX18_bit_37 (by decide) (rZ hv9) ?_ ?_
      · refine s_aload_n o dX18_bit_43 rfl 2 rfl ?_
        refine s_iload_n o dX18_bit_44 rfl 0 rfl ?_
        refine s_iconst o dX18_bit_45 ?_
        refine r_zast o hv5 (Or.inr rfl) dX18_bit_46 ?_
        refine s_aload_n o dX18_bit_47 rfl 2 rfl ?_
        refine s_aload_n o dX18_bit_48 rfl 2 rfl ?_
        refine s_alen o dX18_bit_49 (fun v10 hv10 => ?_)
        refine s_iconst o dX18_bit_50 ?_
        refine s_isub o dX18_bit_51 ?_
        refine s_iconst o dX18_bit_52 ?_
        refine r_zast o (w32_R _) (Or.inr rfl) dX18_bit_53 ?_
        refine r_to [(0, vA (mg Γ) l0), (1, vA (mg Γ) l1), (2, vI l2)] [1, 2, 3] rfl ?_
        exact sb_X18_bit_54 hr o k_60 hk_60 l0 l1 l2 hl2
      · refine s_goto (tgt := 54) o dX18_bit_40 (by decide) ?_
        refine r_to [(0, vA (mg Γ) l0), (1, vA (mg Γ) l1), (2, vI l2)] [1, 2, 3] rfl ?_
        exact sb_X18_bit_54 hr o k_60 hk_60 l0 l1 l2 hl2
noncomputable def b_X18_bit_2 (rc : Rc) {A : Type} (k_60 : Int → Int → Mo CH A) (l0 : Int) (l1 : Int) (l2 : Int) : Mo CH A := Loop (fun x => b_X18_bit_2b rc k_60 x.1 x.2.1 x.2.2) (l0, l1, l2)
theorem sb_X18_bit_2 {Γ : Gm} {ts : TS} {d : Nat} {rc : Rc} (hr : GR_bit (mg Γ) ts (d + 3) rc) (o : Ok Γ "LazyForge$Let" cX18_bit 4 (Option.some Jvm.ClassFile.FieldType.boolean) (d + 4)) {A : Type} {K : A → CH → Prop} (k_60 : Int → Int → Mo CH A) (hk_60 : ∀ (l0 : Int) (l1 : Int), Sx Γ (fun h => (h, ts)) K 60 [(0, vA (mg Γ) l0), (1, vA (mg Γ) l1)] [] (k_60 l0 l1)) (l0 : Int) (l1 : Int) (l2 : Int) (hl2 : R32 l2) : Sx Γ (fun h => (h, ts)) K 2 [(0, vA (mg Γ) l0), (1, vA (mg Γ) l1), (2, vI l2)] [] (b_X18_bit_2 rc k_60 l0 l1 l2) :=
  s_loop okb_X18_bit_2 (lvb_X18_bit_2 Γ) (fun x hx => sb_X18_bit_2b hr o k_60 hk_60 x.1 x.2.1 x.2.2 hx) (x := (l0, l1, l2)) hl2
noncomputable def b_X18_bit (rc : Rc) (l0 : Int) (l1 : Int) : Mo CH Int :=
  b_X18_bit_2 rc
    (fun v1 v2 => bnd (gf [118] 7 v1) fun v3 =>
  bnd (rc 0 v3 v2 0 0 0) fun v4 =>
  pr v4) l0 l1 0
theorem sb_X18_bit (g : gC) (d : Nat) (ts : TS) (rc : Rc) (hr : GR_bit g ts (d + 3) rc) (l0 : Int) (l1 : Int) : SF g yX18_bit (Cond.code yX18_bit cX18_bit 4 (Option.some Jvm.ClassFile.FieldType.boolean)) (Option.some Jvm.ClassFile.FieldType.boolean) (d + 4) [vA g l0, vA g l1] (fun h => (h, ts)) (b_X18_bit rc l0 l1) := by
  refine SF.of (lv := [(0, vA g l0), (1, vA g l1)]) (by decide) (wt_A (wt_A wt_0)) rfl (by simp only [la_A, la_I, la_J, la_0]) (fun Γ hg hnm o => ?_)
  subst hg
  have o : Ok Γ "LazyForge$Let" cX18_bit 4 (Option.some Jvm.ClassFile.FieldType.boolean) (d + 4) := o
  unfold b_X18_bit
  refine s_iconst o dX18_bit_0 ?_
  refine r_istore_n o dX18_bit_1 rfl rfl ⟨(Nat.ne_of_beq_eq_false rfl), (fun _ => (vA_cat (mg Γ) l0)), ⟨(Nat.ne_of_beq_eq_false rfl), (fun _ => (vA_cat (mg Γ) l1)), trivial⟩⟩ ?_
  refine r_to [(0, vA (mg Γ) l0), (1, vA (mg Γ) l1), (2, vI 0)] [1, 2, 0] rfl ?_
  refine sb_X18_bit_2 hr o _ ?_ l0 l1 0 (r32 rfl)
  · intro v1 v2
    refine s_aload_n o dX18_bit_60 rfl 0 rfl ?_
    refine r_getf (vA (mg Γ)) rfl o cf_X18_body (Or.inl (lw_all_tbl q1337)) dX18_bit_61 (fun v3 hv3 => ?_)
    refine s_aload_n o dX18_bit_64 rfl 1 rfl ?_
    refine s_cu (d := d + 3) (As := [vA (mg Γ) v2]) (st := []) (owner := "LazyForge$Part") o (gr_bit_0 hr v3 v2) rfl (lw_all_tbl q1711) (lw_all_tbl q1695) (Or.inl q1694) ⟨by decide, by decide⟩ (by decide +kernel) wt_0 rfl dX18_bit_65 rfl (rs := fun r => [vI r]) (fun _ => rfl) (fun v4 hv4 => ?_)
    exact s_iret o rfl i_boolean (hv4 _ rfl) dX18_bit_68 (fun _ hh => hh)
noncomputable def v_X4_bit_b (rc : Rc) (l0 : Int) (l1 : Int) : Mo CH Int := dsp l0 [([106, 107, 108, 109, 110], c_X5_bit l0 l1), ([118], b_X18_bit rc l0 l1), ([119], c_X19_bit l0 l1), ([120], c_X20_bit l0 l1), ([121], b_X21_bit rc l0 l1), ([122], b_X22_bit rc l0 l1), ([123], b_X23_bit rc l0 l1), ([124], c_X24_bit l0 l1), ([125], c_X25_bit l0 l1), ([126], c_X26_bit l0 l1)]
theorem sv_X4_bit_b (g : gC) (d : Nat) (ts : TS) (rc : Rc) (hr : GR_bit g ts (d + 3) rc) (l0 : Int) (l1 : Int) : VR g ts ⟨"LazyForge$Part", "bit", "([Z)Z"⟩ (some .boolean) 1 (d + 4) l0 [vA g l1] (v_X4_bit_b rc l0 l1) := (VR.cons (x0 := ⟨"LazyForge$Part", "bit", "([Z)Z"⟩) ⟨⟨6, _, rfl, rfl, (lw_all_tbl q1741)⟩, ⟨⟨7, _, rfl, rfl, (lw_all_tbl q1735)⟩, ⟨⟨8, _, rfl, rfl, (lw_all_tbl q1696)⟩, ⟨⟨9, _, rfl, rfl, (lw_all_tbl q1732)⟩, ⟨⟨10, _, rfl, rfl, (lw_all_tbl q1734)⟩, trivial⟩⟩⟩⟩⟩ (lw_all_tbl q1697) mw_X5_bit (sc_X5_bit g (d + 4) ts l0 l1) (VR.cons (x0 := ⟨"LazyForge$Part", "bit", "([Z)Z"⟩) ⟨⟨18, _, rfl, rfl, (lw_all_tbl q1736)⟩, trivial⟩ (lw_all_tbl q1709) mw_X18_bit (sb_X18_bit g d ts rc hr l0 l1) (VR.cons (x0 := ⟨"LazyForge$Part", "bit", "([Z)Z"⟩) ⟨⟨19, _, rfl, rfl, (lw_all_tbl q1739)⟩, trivial⟩ (lw_all_tbl q1716) mw_X19_bit (sc_X19_bit g (d + 1) ts l0 l1) (VR.cons (x0 := ⟨"LazyForge$Part", "bit", "([Z)Z"⟩) ⟨⟨20, _, rfl, rfl, (lw_all_tbl q1742)⟩, trivial⟩ (lw_all_tbl q1727) mw_X20_bit (sc_X20_bit g (d + 4) ts l0 l1) (VR.cons (x0 := ⟨"LazyForge$Part", "bit", "([Z)Z"⟩) ⟨⟨21, _, rfl, rfl, (lw_all_tbl q1699)⟩, trivial⟩ (lw_all_tbl q1700) mw_X21_bit (sb_X21_bit g d ts rc hr l0 l1) (VR.cons (x0 := ⟨"LazyForge$Part", "bit", "([Z)Z"⟩) ⟨⟨22, _, rfl, rfl, (lw_all_tbl q1731)⟩, trivial⟩ (lw_all_tbl q1704) mw_X22_bit (sb_X22_bit g d ts rc hr l0 l1) (VR.cons (x0 := ⟨"LazyForge$Part", "bit", "([Z)Z"⟩) ⟨⟨23, _, rfl, rfl, (lw_all_tbl q1740)⟩, trivial⟩ (lw_all_tbl q1724) mw_X23_bit (sb_X23_bit g d ts rc hr l0 l1) (VR.cons (x0 := ⟨"LazyForge$Part", "bit", "([Z)Z"⟩) ⟨⟨24, _, rfl, rfl, (lw_all_tbl q1737)⟩, trivial⟩ (lw_all_tbl q1712) mw_X24_bit (sc_X24_bit g (d + 4) ts l0 l1) (VR.cons (x0 := ⟨"LazyForge$Part", "bit", "([Z)Z"⟩) ⟨⟨25, _, rfl, rfl, (lw_all_tbl q1738)⟩, trivial⟩ (lw_all_tbl q1714) mw_X25_bit (sc_X25_bit g (d + 4) ts l0 l1) (VR.cons (x0 := ⟨"LazyForge$Part", "bit", "([Z)Z"⟩) ⟨⟨26, _, rfl, rfl, (lw_all_tbl q1733)⟩, trivial⟩ (lw_all_tbl q1707) mw_X26_bit (sc_X26_bit g (d + 4) ts l0 l1) VR.nil))))))))))
noncomputable def G_bit (rc : Rc) : Rc := fun j a0 a1 a2 a3 a4 => match j with
  | 0 => v_X4_bit_b rc a0 a1
  | _ => no
noncomputable def R_bit : Nat → Rc
  | 0 => fun _ _ _ _ _ _ => no
  | n + 1 => G_bit (R_bit n)
theorem G_bit_ok (g : gC) (ts : TS) (d : Nat) (rc : Rc) (hr : GR_bit g ts (d + 3) rc) : GR_bit g ts (d + 4) (G_bit rc) := (fun l0 l1 => sv_X4_bit_b g d ts rc hr l0 l1)
theorem R_bit_ok (g : gC) (ts : TS) : ∀ n d, GR_bit g ts (d + 3 + n) (R_bit n)
  | 0, d => (fun _ _ _ _ _ e => by cases e)
  | n + 1, d => by
    have h := R_bit_ok g ts n d
    rw [show d + 3 + n = (d + n) + 3 by omega] at h
    have h := G_bit_ok g ts _ _ h
    rw [show d + 3 + (n + 1) = (d + n) + 4 by omega]
    exact h
noncomputable def v_X4_bit (l0 : Int) (l1 : Int) : Mo CH Int := R_bit 200 0 l0 l1 0 0 0
theorem sv_X4_bit (g : gC) (d : Nat) (ts : TS) (l0 : Int) (l1 : Int) : VR g ts ⟨"LazyForge$Part", "bit", "([Z)Z"⟩ (some .boolean) 1 (d + 203) l0 [vA g l1] (v_X4_bit l0 l1) := by
  have h := R_bit_ok g ts 200 d
  rw [Nat.add_assoc] at h
  exact gr_bit_0 h l0 l1
theorem dX25_clear_0 : decode cX25_clear 0 = .ok (.aload_n 0, 1) := by decide +kernel
theorem dX25_clear_1 : decode cX25_clear 1 = .ok (.getfield 15, 3) := by decide +kernel
theorem dX25_clear_4 : decode cX25_clear 4 = .ok (.astore_n 2, 1) := by decide +kernel
theorem dX25_clear_5 : decode cX25_clear 5 = .ok (.aload_n 2, 1) := by decide +kernel
theorem dX25_clear_6 : decode cX25_clear 6 = .ok (.arraylength, 1) := by decide +kernel
theorem dX25_clear_7 : decode cX25_clear 7 = .ok (.istore_n 3, 1) := by decide +kernel
theorem dX25_clear_8 : decode cX25_clear 8 = .ok (.iconst 0, 1) := by decide +kernel
theorem dX25_clear_9 : decode cX25_clear 9 = .ok (.istore 4, 2) := by decide +kernel
theorem dX25_clear_11 : decode cX25_clear 11 = .ok (.iload 4, 2) := by decide +kernel
theorem dX25_clear_13 : decode cX25_clear 13 = .ok (.iload_n 3, 1) := by decide +kernel
theorem dX25_clear_14 : decode cX25_clear 14 = .ok (.if_icmp .ge 21, 3) := by decide +kernel
theorem dX25_clear_17 : decode cX25_clear 17 = .ok (.aload_n 2, 1) := by decide +kernel
theorem dX25_clear_18 : decode cX25_clear 18 = .ok (.iload 4, 2) := by decide +kernel
theorem dX25_clear_20 : decode cX25_clear 20 = .ok (.aaload, 1) := by decide +kernel
theorem dX25_clear_21 : decode cX25_clear 21 = .ok (.astore 5, 2) := by decide +kernel
theorem dX25_clear_23 : decode cX25_clear 23 = .ok (.aload 5, 2) := by decide +kernel
theorem dX25_clear_25 : decode cX25_clear 25 = .ok (.aload_n 1, 1) := by decide +kernel
theorem dX25_clear_26 : decode cX25_clear 26 = .ok (.invokevirtual 23, 3) := by decide +kernel
theorem dX25_clear_29 : decode cX25_clear 29 = .ok (.iinc 4 1, 3) := by decide +kernel
theorem dX25_clear_32 : decode cX25_clear 32 = .ok (.goto (-21), 3) := by decide +kernel
theorem dX25_clear_35 : decode cX25_clear 35 = .ok (.return_, 1) := by decide +kernel
theorem mw_X25_clear : MW yX25_clear (Cond.code yX25_clear cX25_clear 6 (Option.none : Option Jvm.ClassFile.FieldType)) cX25_clear 6 (Option.none : Option Jvm.ClassFile.FieldType) 1 := ⟨rfl, ⟨(lw_all_tbl q1675), rfl, (lw_all_tbl q205)⟩, rfl, ⟨by decide, by decide⟩, by decide +kernel⟩
theorem dX23_clear_0 : decode cX23_clear 0 = .ok (.aload_n 0, 1) := by decide +kernel
theorem dX23_clear_1 : decode cX23_clear 1 = .ok (.getfield 13, 3) := by decide +kernel
theorem dX23_clear_4 : decode cX23_clear 4 = .ok (.aload_n 1, 1) := by decide +kernel
theorem dX23_clear_5 : decode cX23_clear 5 = .ok (.invokevirtual 28, 3) := by decide +kernel
theorem dX23_clear_8 : decode cX23_clear 8 = .ok (.aload_n 0, 1) := by decide +kernel
theorem dX23_clear_9 : decode cX23_clear 9 = .ok (.getfield 17, 3) := by decide +kernel
theorem dX23_clear_12 : decode cX23_clear 12 = .ok (.aload_n 1, 1) := by decide +kernel
theorem dX23_clear_13 : decode cX23_clear 13 = .ok (.invokevirtual 28, 3) := by decide +kernel
theorem dX23_clear_16 : decode cX23_clear 16 = .ok (.return_, 1) := by decide +kernel
theorem mw_X23_clear : MW yX23_clear (Cond.code yX23_clear cX23_clear 2 (Option.none : Option Jvm.ClassFile.FieldType)) cX23_clear 2 (Option.none : Option Jvm.ClassFile.FieldType) 1 := ⟨rfl, ⟨(lw_all_tbl q1678), rfl, (lw_all_tbl q203)⟩, rfl, ⟨by decide, by decide⟩, by decide +kernel⟩
theorem dX22_clear_0 : decode cX22_clear 0 = .ok (.aload_n 0, 1) := by decide +kernel
theorem dX22_clear_1 : decode cX22_clear 1 = .ok (.getfield 9, 3) := by decide +kernel
theorem dX22_clear_4 : decode cX22_clear 4 = .ok (.aload_n 1, 1) := by decide +kernel
theorem dX22_clear_5 : decode cX22_clear 5 = .ok (.invokevirtual 34, 3) := by decide +kernel
theorem dX22_clear_8 : decode cX22_clear 8 = .ok (.aload_n 0, 1) := by decide +kernel
theorem dX22_clear_9 : decode cX22_clear 9 = .ok (.getfield 26, 3) := by decide +kernel
theorem dX22_clear_12 : decode cX22_clear 12 = .ok (.astore_n 2, 1) := by decide +kernel
theorem dX22_clear_13 : decode cX22_clear 13 = .ok (.aload_n 2, 1) := by decide +kernel
theorem dX22_clear_14 : decode cX22_clear 14 = .ok (.arraylength, 1) := by decide +kernel
theorem dX22_clear_15 : decode cX22_clear 15 = .ok (.istore_n 3, 1) := by decide +kernel
theorem dX22_clear_16 : decode cX22_clear 16 = .ok (.iconst 0, 1) := by decide +kernel
theorem dX22_clear_17 : decode cX22_clear 17 = .ok (.istore 4, 2) := by decide +kernel
theorem dX22_clear_19 : decode cX22_clear 19 = .ok (.iload 4, 2) := by decide +kernel
theorem dX22_clear_21 : decode cX22_clear 21 = .ok (.iload_n 3, 1) := by decide +kernel
theorem dX22_clear_22 : decode cX22_clear 22 = .ok (.if_icmp .ge 21, 3) := by decide +kernel
theorem dX22_clear_25 : decode cX22_clear 25 = .ok (.aload_n 2, 1) := by decide +kernel
theorem dX22_clear_26 : decode cX22_clear 26 = .ok (.iload 4, 2) := by decide +kernel
theorem dX22_clear_28 : decode cX22_clear 28 = .ok (.aaload, 1) := by decide +kernel
theorem dX22_clear_29 : decode cX22_clear 29 = .ok (.astore 5, 2) := by decide +kernel
theorem dX22_clear_31 : decode cX22_clear 31 = .ok (.aload 5, 2) := by decide +kernel
theorem dX22_clear_33 : decode cX22_clear 33 = .ok (.aload_n 1, 1) := by decide +kernel
theorem dX22_clear_34 : decode cX22_clear 34 = .ok (.invokevirtual 34, 3) := by decide +kernel
theorem dX22_clear_37 : decode cX22_clear 37 = .ok (.iinc 4 1, 3) := by decide +kernel
theorem dX22_clear_40 : decode cX22_clear 40 = .ok (.goto (-21), 3) := by decide +kernel
theorem dX22_clear_43 : decode cX22_clear 43 = .ok (.return_, 1) := by decide +kernel
theorem mw_X22_clear : MW yX22_clear (Cond.code yX22_clear cX22_clear 6 (Option.none : Option Jvm.ClassFile.FieldType)) cX22_clear 6 (Option.none : Option Jvm.ClassFile.FieldType) 1 := ⟨rfl, ⟨(lw_all_tbl q1669), rfl, (lw_all_tbl q202)⟩, rfl, ⟨by decide, by decide⟩, by decide +kernel⟩
theorem dX21_clear_0 : decode cX21_clear 0 = .ok (.aload_n 0, 1) := by decide +kernel
theorem dX21_clear_1 : decode cX21_clear 1 = .ok (.getfield 9, 3) := by decide +kernel
theorem dX21_clear_4 : decode cX21_clear 4 = .ok (.aload_n 1, 1) := by decide +kernel
theorem dX21_clear_5 : decode cX21_clear 5 = .ok (.invokevirtual 42, 3) := by decide +kernel
theorem dX21_clear_8 : decode cX21_clear 8 = .ok (.aload_n 0, 1) := by decide +kernel
theorem dX21_clear_9 : decode cX21_clear 9 = .ok (.getfield 15, 3) := by decide +kernel
theorem dX21_clear_12 : decode cX21_clear 12 = .ok (.astore_n 2, 1) := by decide +kernel
theorem dX21_clear_13 : decode cX21_clear 13 = .ok (.aload_n 2, 1) := by decide +kernel
theorem dX21_clear_14 : decode cX21_clear 14 = .ok (.arraylength, 1) := by decide +kernel
theorem dX21_clear_15 : decode cX21_clear 15 = .ok (.istore_n 3, 1) := by decide +kernel
theorem dX21_clear_16 : decode cX21_clear 16 = .ok (.iconst 0, 1) := by decide +kernel
theorem dX21_clear_17 : decode cX21_clear 17 = .ok (.istore 4, 2) := by decide +kernel
theorem dX21_clear_19 : decode cX21_clear 19 = .ok (.iload 4, 2) := by decide +kernel
theorem dX21_clear_21 : decode cX21_clear 21 = .ok (.iload_n 3, 1) := by decide +kernel
theorem dX21_clear_22 : decode cX21_clear 22 = .ok (.if_icmp .ge 21, 3) := by decide +kernel
theorem dX21_clear_25 : decode cX21_clear 25 = .ok (.aload_n 2, 1) := by decide +kernel
theorem dX21_clear_26 : decode cX21_clear 26 = .ok (.iload 4, 2) := by decide +kernel
theorem dX21_clear_28 : decode cX21_clear 28 = .ok (.aaload, 1) := by decide +kernel
theorem dX21_clear_29 : decode cX21_clear 29 = .ok (.astore 5, 2) := by decide +kernel
theorem dX21_clear_31 : decode cX21_clear 31 = .ok (.aload 5, 2) := by decide +kernel
theorem dX21_clear_33 : decode cX21_clear 33 = .ok (.aload_n 1, 1) := by decide +kernel
theorem dX21_clear_34 : decode cX21_clear 34 = .ok (.invokevirtual 42, 3) := by decide +kernel
theorem dX21_clear_37 : decode cX21_clear 37 = .ok (.iinc 4 1, 3) := by decide +kernel
theorem dX21_clear_40 : decode cX21_clear 40 = .ok (.goto (-21), 3) := by decide +kernel
theorem dX21_clear_43 : decode cX21_clear 43 = .ok (.return_, 1) := by decide +kernel
theorem mw_X21_clear : MW yX21_clear (Cond.code yX21_clear cX21_clear 6 (Option.none : Option Jvm.ClassFile.FieldType)) cX21_clear 6 (Option.none : Option Jvm.ClassFile.FieldType) 1 := ⟨rfl, ⟨(lw_all_tbl q1666), rfl, (lw_all_tbl q201)⟩, rfl, ⟨by decide, by decide⟩, by decide +kernel⟩
theorem dX18_clear_0 : decode cX18_clear 0 = .ok (.aload_n 0, 1) := by decide +kernel
theorem dX18_clear_1 : decode cX18_clear 1 = .ok (.getfield 7, 3) := by decide +kernel
theorem dX18_clear_4 : decode cX18_clear 4 = .ok (.astore_n 2, 1) := by decide +kernel
theorem dX18_clear_5 : decode cX18_clear 5 = .ok (.aload_n 2, 1) := by decide +kernel
theorem dX18_clear_6 : decode cX18_clear 6 = .ok (.arraylength, 1) := by decide +kernel
theorem dX18_clear_7 : decode cX18_clear 7 = .ok (.istore_n 3, 1) := by decide +kernel
theorem dX18_clear_8 : decode cX18_clear 8 = .ok (.iconst 0, 1) := by decide +kernel
theorem dX18_clear_9 : decode cX18_clear 9 = .ok (.istore 4, 2) := by decide +kernel
theorem dX18_clear_11 : decode cX18_clear 11 = .ok (.iload 4, 2) := by decide +kernel
theorem dX18_clear_13 : decode cX18_clear 13 = .ok (.iload_n 3, 1) := by decide +kernel
theorem dX18_clear_14 : decode cX18_clear 14 = .ok (.if_icmp .ge 23, 3) := by decide +kernel
theorem dX18_clear_17 : decode cX18_clear 17 = .ok (.aload_n 2, 1) := by decide +kernel
theorem dX18_clear_18 : decode cX18_clear 18 = .ok (.iload 4, 2) := by decide +kernel
theorem dX18_clear_20 : decode cX18_clear 20 = .ok (.aaload, 1) := by decide +kernel
theorem dX18_clear_21 : decode cX18_clear 21 = .ok (.astore 5, 2) := by decide +kernel
theorem dX18_clear_23 : decode cX18_clear 23 = .ok (.aload_n 1, 1) := by decide +kernel
theorem dX18_clear_24 : decode cX18_clear 24 = .ok (.aload 5, 2) := by decide +kernel
theorem dX18_clear_26 : decode cX18_clear 26 = .ok (.getfield 25, 3) := by decide +kernel
theorem dX18_clear_29 : decode cX18_clear 29 = .ok (.iconst 0, 1) := by decide +kernel
theorem dX18_clear_30 : decode cX18_clear 30 = .ok (.bastore, 1) := by decide +kernel
theorem dX18_clear_31 : decode cX18_clear 31 = .ok (.iinc 4 1, 3) := by decide +kernel
theorem dX18_clear_34 : decode cX18_clear 34 = .ok (.goto (-23), 3) := by decide +kernel
theorem dX18_clear_37 : decode cX18_clear 37 = .ok (.aload_n 0, 1) := by decide +kernel
theorem dX18_clear_38 : decode cX18_clear 38 = .ok (.getfield 13, 3) := by decide +kernel
theorem dX18_clear_41 : decode cX18_clear 41 = .ok (.astore_n 2, 1) := by decide +kernel
theorem dX18_clear_42 : decode cX18_clear 42 = .ok (.aload_n 2, 1) := by decide +kernel
theorem dX18_clear_43 : decode cX18_clear 43 = .ok (.arraylength, 1) := by decide +kernel
theorem dX18_clear_44 : decode cX18_clear 44 = .ok (.istore_n 3, 1) := by decide +kernel
theorem dX18_clear_45 : decode cX18_clear 45 = .ok (.iconst 0, 1) := by decide +kernel
theorem dX18_clear_46 : decode cX18_clear 46 = .ok (.istore 4, 2) := by decide +kernel
theorem dX18_clear_48 : decode cX18_clear 48 = .ok (.iload 4, 2) := by decide +kernel
theorem dX18_clear_50 : decode cX18_clear 50 = .ok (.iload_n 3, 1) := by decide +kernel
theorem dX18_clear_51 : decode cX18_clear 51 = .ok (.if_icmp .ge 21, 3) := by decide +kernel
theorem dX18_clear_54 : decode cX18_clear 54 = .ok (.aload_n 2, 1) := by decide +kernel
theorem dX18_clear_55 : decode cX18_clear 55 = .ok (.iload 4, 2) := by decide +kernel
theorem dX18_clear_57 : decode cX18_clear 57 = .ok (.aaload, 1) := by decide +kernel
theorem dX18_clear_58 : decode cX18_clear 58 = .ok (.astore 5, 2) := by decide +kernel
theorem dX18_clear_60 : decode cX18_clear 60 = .ok (.aload 5, 2) := by decide +kernel
theorem dX18_clear_62 : decode cX18_clear 62 = .ok (.aload_n 1, 1) := by decide +kernel
theorem dX18_clear_63 : decode cX18_clear 63 = .ok (.invokevirtual 31, 3) := by decide +kernel
theorem dX18_clear_66 : decode cX18_clear 66 = .ok (.iinc 4 1, 3) := by decide +kernel
theorem dX18_clear_69 : decode cX18_clear 69 = .ok (.goto (-21), 3) := by decide +kernel
theorem dX18_clear_72 : decode cX18_clear 72 = .ok (.aload_n 0, 1) := by decide +kernel
theorem dX18_clear_73 : decode cX18_clear 73 = .ok (.getfield 17, 3) := by decide +kernel
theorem dX18_clear_76 : decode cX18_clear 76 = .ok (.aload_n 1, 1) := by decide +kernel
theorem dX18_clear_77 : decode cX18_clear 77 = .ok (.invokevirtual 31, 3) := by decide +kernel
theorem dX18_clear_80 : decode cX18_clear 80 = .ok (.return_, 1) := by decide +kernel
theorem mw_X18_clear : MW yX18_clear (Cond.code yX18_clear cX18_clear 6 (Option.none : Option Jvm.ClassFile.FieldType)) cX18_clear 6 (Option.none : Option Jvm.ClassFile.FieldType) 1 := ⟨rfl, ⟨(lw_all_tbl q1672), rfl, (lw_all_tbl q198)⟩, rfl, ⟨by decide, by decide⟩, by decide +kernel⟩
def GR_clear (g : gC) (ts : TS) (d : Nat) (rc : Rc) : Prop := (∀ (l0 : Int) (l1 : Int), VR g ts ⟨"LazyForge$Part", "clear", "([Z)V"⟩ none 1 d l0 [vA g l1] (rc 0 l0 l1 0 0 0))
theorem gr_clear_0 {g : gC} {ts : TS} {d : Nat} {rc : Rc} (h : GR_clear g ts d rc) : (∀ (l0 : Int) (l1 : Int), VR g ts ⟨"LazyForge$Part", "clear", "([Z)V"⟩ none 1 d l0 [vA g l1] (rc 0 l0 l1 0 0 0)) := h
abbrev okb_X25_clear_11 (x : Int × Int × Int × Int) : Prop := R32 x.2.2.1 ∧ R32 x.2.2.2
abbrev lvb_X25_clear_11 (Γ : Gm) (x : Int × Int × Int × Int) : List (Nat × Value) := [(1, vA (mg Γ) x.1), (2, vA (mg Γ) x.2.1), (3, vI x.2.2.1), (4, vI x.2.2.2)]
noncomputable def b_X25_clear_11b (rc : Rc) {A : Type} (k_35 : Mo CH A) (l1 : Int) (l2 : Int) (l3 : Int) (l4 : Int) : Mo CH ((Int × Int × Int × Int) ⊕ A) :=
  if l3 ≤ l4 then
    lo k_35
  else
    bnd (ald 5 l2 l4) fun v1 =>
    bnd (rc 0 v1 l1 0 0 0) fun _ =>
    pr (.inl (l1, l2, l3, (w32 (l4 + 1))))
theorem sb_X25_clear_11b {Γ : Gm} {ts : TS} {d : Nat} {rc : Rc} (hr : GR_clear (mg Γ) ts (d + 0) rc) (o : Ok Γ "LazyForge$Made" cX25_clear 6 (Option.none : Option Jvm.ClassFile.FieldType) (d + 1)) {A : Type} {K : A → CH → Prop} (k_35 : Mo CH A) (hk_35 : Sx Γ (fun h => (h, ts)) K 35 [] [] (k_35)) (l1 : Int) (l2 : Int) (l3 : Int) (l4 : Int) (hl3 : R32 l3) (hl4 : R32 l4) : Sx Γ (fun h => (h, ts)) (KL Γ (fun h => (h, ts)) okb_X25_clear_11 K 11 (lvb_X25_clear_11 Γ) []) 11 [(1, vA (mg Γ) l1), (2, vA (mg Γ) l2), (3, vI l3), (4, vI l4)] [] (b_X25_clear_11b rc k_35 l1 l2 l3 l4) := by
  unfold b_X25_clear_11b
  refine s_iload o dX25_clear_11 3 rfl ?_
  refine s_iload_n o dX25_clear_13 rfl 2 rfl ?_
  refine s_icmp_ge (tgt := 35) o dX25_clear_14 (by decide) hl4 hl3 ?_ ?_
  · refine r_to [] [] rfl ?_
    exact s_lo hk_35
  · refine s_aload_n o dX25_clear_17 rfl 1 rfl ?_
    refine s_iload o dX25_clear_18 3 rfl ?_
    refine r_aald (kd := 5) o (by decide) rfl hl4 dX25_clear_20 (fun v1 => ?_)
    refine r_astore o dX25_clear_21 rfl ⟨(Nat.ne_of_beq_eq_false rfl), (fun _ => (vA_cat (mg Γ) l1)), ⟨(Nat.ne_of_beq_eq_false rfl), (fun _ => (vA_cat (mg Γ) l2)), ⟨(Nat.ne_of_beq_eq_false rfl), (fun _ => rfl), ⟨(Nat.ne_of_beq_eq_false rfl), (fun _ => rfl), trivial⟩⟩⟩⟩ ?_
    refine s_aload o dX25_clear_23 0 rfl ?_
    refine s_aload_n o dX25_clear_25 rfl 1 rfl ?_
    refine s_cu (d := d + 0) (As := [vA (mg Γ) l1]) (st := []) (owner := "LazyForge$Part") o (gr_clear_0 hr v1 l1) rfl (lw_all_tbl q1676) (lw_all_tbl q1662) (Or.inr ⟨_, _, _, (lw_all_tbl q1661), (lw_all_tbl q1692)⟩) ⟨by decide, by decide⟩ (by decide +kernel) wt_0 rfl dX25_clear_26 rfl (rs := fun _ => []) (fun _ => rfl) (fun _ _ => ?_)
    refine r_iinc (j := 4) o dX25_clear_29 rfl rfl [(5, vA (mg Γ) v1), (1, vA (mg Γ) l1), (2, vA (mg Γ) l2), (3, vI l3)] [0, 1, 2, 3] rfl ⟨(Nat.ne_of_beq_eq_false rfl), (fun _ => (vA_cat (mg Γ) v1)), ⟨(Nat.ne_of_beq_eq_false rfl), (fun _ => (vA_cat (mg Γ) l1)), ⟨(Nat.ne_of_beq_eq_false rfl), (fun _ => (vA_cat (mg Γ) l2)), ⟨(Nat.ne_of_beq_eq_false rfl), (fun _ => rfl), trivial⟩⟩⟩⟩ ?_
    refine s_goto (tgt := 11) o dX25_clear_32 (by decide) ?_
    refine r_to [(1, vA (mg Γ) l1), (2, vA (mg Γ) l2), (3, vI l3), (4, vI (w32 (l4 + 1)))] [2, 3, 4, 0] rfl ?_
    exact s_back (⟨hl3, (w32_R _)⟩) rfl
noncomputable def b_X25_clear_11 (rc : Rc) {A : Type} (k_35 : Mo CH A) (l1 : Int) (l2 : Int) (l3 : Int) (l4 : Int) : Mo CH A := Loop (fun x => b_X25_clear_11b rc k_35 x.1 x.2.1 x.2.2.1 x.2.2.2) (l1, l2, l3, l4)
theorem sb_X25_clear_11 {Γ : Gm} {ts : TS} {d : Nat} {rc : Rc} (hr : GR_clear (mg Γ) ts (d + 0) rc) (o : Ok Γ "LazyForge$Made" cX25_clear 6 (Option.none : Option Jvm.ClassFile.FieldType) (d + 1)) {A : Type} {K : A → CH → Prop} (k_35 : Mo CH A) (hk_35 : Sx Γ (fun h => (h, ts)) K 35 [] [] (k_35)) (l1 : Int) (l2 : Int) (l3 : Int) (l4 : Int) (hl3 : R32 l3) (hl4 : R32 l4) : Sx Γ (fun h => (h, ts)) K 11 [(1, vA (mg Γ) l1), (2, vA (mg Γ) l2), (3, vI l3), (4, vI l4)] [] (b_X25_clear_11 rc k_35 l1 l2 l3 l4) :=
  s_loop okb_X25_clear_11 (lvb_X25_clear_11 Γ) (fun x hx => sb_X25_clear_11b hr o k_35 hk_35 x.1 x.2.1 x.2.2.1 x.2.2.2 hx.1 hx.2) (x := (l1, l2, l3, l4)) ⟨hl3, hl4⟩
noncomputable def b_X25_clear (rc : Rc) (l0 : Int) (l1 : Int) : Mo CH Int :=
  bnd (gf [125] 6 l0) fun v1 =>
  bnd (aln v1) fun v2 =>
  b_X25_clear_11 rc
    (pr 0) l1 v1 v2 0
theorem sb_X25_clear (g : gC) (d : Nat) (ts : TS) (rc : Rc) (hr : GR_clear g ts (d + 0) rc) (l0 : Int) (l1 : Int) : SF g yX25_clear (Cond.code yX25_clear cX25_clear 6 (Option.none : Option Jvm.ClassFile.FieldType)) (Option.none : Option Jvm.ClassFile.FieldType) (d + 1) [vA g l0, vA g l1] (fun h => (h, ts)) (b_X25_clear rc l0 l1) := by
  refine SF.of (lv := [(0, vA g l0), (1, vA g l1)]) (by decide) (wt_A (wt_A wt_0)) rfl (by simp only [la_A, la_I, la_J, la_0]) (fun Γ hg hnm o => ?_)
  subst hg
  have o : Ok Γ "LazyForge$Made" cX25_clear 6 (Option.none : Option Jvm.ClassFile.FieldType) (d + 1) := o
  unfold b_X25_clear
  refine s_aload_n o dX25_clear_0 rfl 0 rfl ?_
  refine r_getf (vA (mg Γ)) rfl o cf_X25_fields (Or.inl (lw_all_tbl q1569)) dX25_clear_1 (fun v1 hv1 => ?_)
  refine r_astore_n o dX25_clear_4 rfl rfl ⟨(Nat.ne_of_beq_eq_false rfl), (fun _ => (vA_cat (mg Γ) l0)), ⟨(Nat.ne_of_beq_eq_false rfl), (fun _ => (vA_cat (mg Γ) l1)), trivial⟩⟩ ?_
  refine s_aload_n o dX25_clear_5 rfl 0 rfl ?_
  refine s_alen o dX25_clear_6 (fun v2 hv2 => ?_)
  refine r_istore_n o dX25_clear_7 rfl rfl ⟨(Nat.ne_of_beq_eq_false rfl), (fun _ => (vA_cat (mg Γ) v1)), ⟨(Nat.ne_of_beq_eq_false rfl), (fun _ => (vA_cat (mg Γ) l0)), ⟨(Nat.ne_of_beq_eq_false rfl), (fun _ => (vA_cat (mg Γ) l1)), trivial⟩⟩⟩ ?_
  refine s_iconst o dX25_clear_8 ?_
  refine r_istore o dX25_clear_9 rfl ⟨(Nat.ne_of_beq_eq_false rfl), (fun _ => rfl), ⟨(Nat.ne_of_beq_eq_false rfl), (fun _ => (vA_cat (mg Γ) v1)), ⟨(Nat.ne_of_beq_eq_false rfl), (fun _ => (vA_cat (mg Γ) l0)), ⟨(Nat.ne_of_beq_eq_false rfl), (fun _ => (vA_cat (mg Γ) l1)), trivial⟩⟩⟩⟩ ?_
  refine r_to [(1, vA (mg Γ) l1), (2, vA (mg Γ) v1), (3, vI v2), (4, vI 0)] [4, 2, 1, 0] rfl ?_
  refine sb_X25_clear_11 hr o _ ?_ l1 v1 v2 0 (rN hv2) (r32 rfl)
  · exact s_vret o rfl dX25_clear_35 (fun _ hh => hh)
noncomputable def b_X23_clear (rc : Rc) (l0 : Int) (l1 : Int) : Mo CH Int :=
  bnd (gf [123] 6 l0) fun v1 =>
  bnd (rc 0 v1 l1 0 0 0) fun _ =>
  bnd (gf [123] 7 l0) fun v2 =>
  bnd (rc 0 v2 l1 0 0 0) fun _ =>
  pr 0
theorem sb_X23_clear (g : gC) (d : Nat) (ts : TS) (rc : Rc) (hr : GR_clear g ts (d + 0) rc) (l0 : Int) (l1 : Int) : SF g yX23_clear (Cond.code yX23_clear cX23_clear 2 (Option.none : Option Jvm.ClassFile.FieldType)) (Option.none : Option Jvm.ClassFile.FieldType) (d + 1) [vA g l0, vA g l1] (fun h => (h, ts)) (b_X23_clear rc l0 l1) := by
  refine SF.of (lv := [(0, vA g l0), (1, vA g l1)]) (by decide) (wt_A (wt_A wt_0)) rfl (by simp only [la_A, la_I, la_J, la_0]) (fun Γ hg hnm o => ?_)
  subst hg
  have o : Ok Γ "LazyForge$Sign" cX23_clear 2 (Option.none : Option Jvm.ClassFile.FieldType) (d + 1) := o
  unfold b_X23_clear
  refine s_aload_n o dX23_clear_0 rfl 0 rfl ?_
  refine r_getf (vA (mg Γ)) rfl o cf_X23_one (Or.inl (lw_all_tbl q1526)) dX23_clear_1 (fun v1 hv1 => ?_)
  refine s_aload_n o dX23_clear_4 rfl 1 rfl ?_
  refine s_cu (d := d + 0) (As := [vA (mg Γ) l1]) (st := []) (owner := "LazyForge$Part") o (gr_clear_0 hr v1 l1) rfl (lw_all_tbl q1679) (lw_all_tbl q1662) (Or.inr ⟨_, _, _, (lw_all_tbl q1661), (lw_all_tbl q1692)⟩) ⟨by decide, by decide⟩ (by decide +kernel) wt_0 rfl dX23_clear_5 rfl (rs := fun _ => []) (fun _ => rfl) (fun _ _ => ?_)
  refine s_aload_n o dX23_clear_8 rfl 0 rfl ?_
  refine r_getf (vA (mg Γ)) rfl o cf_X23_two (Or.inl (lw_all_tbl q1527)) dX23_clear_9 (fun v2 hv2 => ?_)
  refine s_aload_n o dX23_clear_12 rfl 1 rfl ?_
  refine s_cu (d := d + 0) (As := [vA (mg Γ) l1]) (st := []) (owner := "LazyForge$Part") o (gr_clear_0 hr v2 l1) rfl (lw_all_tbl q1679) (lw_all_tbl q1662) (Or.inr ⟨_, _, _, (lw_all_tbl q1661), (lw_all_tbl q1692)⟩) ⟨by decide, by decide⟩ (by decide +kernel) wt_0 rfl dX23_clear_13 rfl (rs := fun _ => []) (fun _ => rfl) (fun _ _ => ?_)
  exact s_vret o rfl dX23_clear_16 (fun _ hh => hh)
abbrev okb_X22_clear_19 (x : Int × Int × Int × Int) : Prop := R32 x.2.2.1 ∧ R32 x.2.2.2
abbrev lvb_X22_clear_19 (Γ : Gm) (x : Int × Int × Int × Int) : List (Nat × Value) := [(1, vA (mg Γ) x.1), (2, vA (mg Γ) x.2.1), (3, vI x.2.2.1), (4, vI x.2.2.2)]
noncomputable def b_X22_clear_19b (rc : Rc) {A : Type} (k_43 : Mo CH A) (l1 : Int) (l2 : Int) (l3 : Int) (l4 : Int) : Mo CH ((Int × Int × Int × Int) ⊕ A) :=
  if l3 ≤ l4 then
    lo k_43
  else
    bnd (ald 5 l2 l4) fun v1 =>
    bnd (rc 0 v1 l1 0 0 0) fun _ =>
    pr (.inl (l1, l2, l3, (w32 (l4 + 1))))
theorem sb_X22_clear_19b {Γ : Gm} {ts : TS} {d : Nat} {rc : Rc} (hr : GR_clear (mg Γ) ts (d + 0) rc) (o : Ok Γ "LazyForge$Case" cX22_clear 6 (Option.none : Option Jvm.ClassFile.FieldType) (d + 1)) {A : Type} {K : A → CH → Prop} (k_43 : Mo CH A) (hk_43 : Sx Γ (fun h => (h, ts)) K 43 [] [] (k_43)) (l1 : Int) (l2 : Int) (l3 : Int) (l4 : Int) (hl3 : R32 l3) (hl4 : R32 l4) : Sx Γ (fun h => (h, ts)) (KL Γ (fun h => (h, ts)) okb_X22_clear_19 K 19 (lvb_X22_clear_19 Γ) []) 19 [(1, vA (mg Γ) l1), (2, vA (mg Γ) l2), (3, vI l3), (4, vI l4)] [] (b_X22_clear_19b rc k_43 l1 l2 l3 l4) := by
  unfold b_X22_clear_19b
  refine s_iload o dX22_clear_19 3 rfl ?_
  refine s_iload_n o dX22_clear_21 rfl 2 rfl ?_
  refine s_icmp_ge (tgt := 43) o dX22_clear_22 (by decide) hl4 hl3 ?_ ?_
  · refine r_to [] [] rfl ?_
    exact s_lo hk_43
  · refine s_aload_n o dX22_clear_25 rfl 1 rfl ?_
    refine s_iload o dX22_clear_26 3 rfl ?_
    refine r_aald (kd := 5) o (by decide) rfl hl4 dX22_clear_28 (fun v1 => ?_)
    refine r_astore o dX22_clear_29 rfl ⟨(Nat.ne_of_beq_eq_false rfl), (fun _ => (vA_cat (mg Γ) l1)), ⟨(Nat.ne_of_beq_eq_false rfl), (fun _ => (vA_cat (mg Γ) l2)), ⟨(Nat.ne_of_beq_eq_false rfl), (fun _ => rfl), ⟨(Nat.ne_of_beq_eq_false rfl), (fun _ => rfl), trivial⟩⟩⟩⟩ ?_
    refine s_aload o dX22_clear_31 0 rfl ?_
    refine s_aload_n o dX22_clear_33 rfl 1 rfl ?_
    refine s_cu (d := d + 0) (As := [vA (mg Γ) l1]) (st := []) (owner := "LazyForge$Part") o (gr_clear_0 hr v1 l1) rfl (lw_all_tbl q1670) (lw_all_tbl q1662) (Or.inr ⟨_, _, _, (lw_all_tbl q1661), (lw_all_tbl q1692)⟩) ⟨by decide, by decide⟩ (by decide +kernel) wt_0 rfl dX22_clear_34 rfl (rs := fun _ => []) (fun _ => rfl) (fun _ _ => ?_)
    refine r_iinc (j := 4) o dX22_clear_37 rfl rfl [(5, vA (mg Γ) v1), (1, vA (mg Γ) l1), (2, vA (mg Γ) l2), (3, vI l3)] [0, 1, 2, 3] rfl ⟨(Nat.ne_of_beq_eq_false rfl), (fun _ => (vA_cat (mg Γ) v1)), ⟨(Nat.ne_of_beq_eq_false rfl), (fun _ => (vA_cat (mg Γ) l1)), ⟨(Nat.ne_of_beq_eq_false rfl), (fun _ => (vA_cat (mg Γ) l2)), ⟨(Nat.ne_of_beq_eq_false rfl), (fun _ => rfl), trivial⟩⟩⟩⟩ ?_
    refine s_goto (tgt := 19) o dX22_clear_40 (by decide) ?_
    refine r_to [(1, vA (mg Γ) l1), (2, vA (mg Γ) l2), (3, vI l3), (4, vI (w32 (l4 + 1)))] [2, 3, 4, 0] rfl ?_
    exact s_back (⟨hl3, (w32_R _)⟩) rfl
noncomputable def b_X22_clear_19 (rc : Rc) {A : Type} (k_43 : Mo CH A) (l1 : Int) (l2 : Int) (l3 : Int) (l4 : Int) : Mo CH A := Loop (fun x => b_X22_clear_19b rc k_43 x.1 x.2.1 x.2.2.1 x.2.2.2) (l1, l2, l3, l4)
theorem sb_X22_clear_19 {Γ : Gm} {ts : TS} {d : Nat} {rc : Rc} (hr : GR_clear (mg Γ) ts (d + 0) rc) (o : Ok Γ "LazyForge$Case" cX22_clear 6 (Option.none : Option Jvm.ClassFile.FieldType) (d + 1)) {A : Type} {K : A → CH → Prop} (k_43 : Mo CH A) (hk_43 : Sx Γ (fun h => (h, ts)) K 43 [] [] (k_43)) (l1 : Int) (l2 : Int) (l3 : Int) (l4 : Int) (hl3 : R32 l3) (hl4 : R32 l4) : Sx Γ (fun h => (h, ts)) K 19 [(1, vA (mg Γ) l1), (2, vA (mg Γ) l2), (3, vI l3), (4, vI l4)] [] (b_X22_clear_19 rc k_43 l1 l2 l3 l4) :=
  s_loop okb_X22_clear_19 (lvb_X22_clear_19 Γ) (fun x hx => sb_X22_clear_19b hr o k_43 hk_43 x.1 x.2.1 x.2.2.1 x.2.2.2 hx.1 hx.2) (x := (l1, l2, l3, l4)) ⟨hl3, hl4⟩
noncomputable def b_X22_clear (rc : Rc) (l0 : Int) (l1 : Int) : Mo CH Int :=
  bnd (gf [122] 5 l0) fun v1 =>
  bnd (rc 0 v1 l1 0 0 0) fun _ =>
  bnd (gf [122] 9 l0) fun v2 =>
  bnd (aln v2) fun v3 =>
  b_X22_clear_19 rc
    (pr 0) l1 v2 v3 0
theorem sb_X22_clear (g : gC) (d : Nat) (ts : TS) (rc : Rc) (hr : GR_clear g ts (d + 0) rc) (l0 : Int) (l1 : Int) : SF g yX22_clear (Cond.code yX22_clear cX22_clear 6 (Option.none : Option Jvm.ClassFile.FieldType)) (Option.none : Option Jvm.ClassFile.FieldType) (d + 1) [vA g l0, vA g l1] (fun h => (h, ts)) (b_X22_clear rc l0 l1) := by
  refine SF.of (lv := [(0, vA g l0), (1, vA g l1)]) (by decide) (wt_A (wt_A wt_0)) rfl (by simp only [la_A, la_I, la_J, la_0]) (fun Γ hg hnm o => ?_)
  subst hg
  have o : Ok Γ "LazyForge$Case" cX22_clear 6 (Option.none : Option Jvm.ClassFile.FieldType) (d + 1) := o
  unfold b_X22_clear
  refine s_aload_n o dX22_clear_0 rfl 0 rfl ?_
  refine r_getf (vA (mg Γ)) rfl o cf_X22_of (Or.inl (lw_all_tbl q1495)) dX22_clear_1 (fun v1 hv1 => ?_)
  refine s_aload_n o dX22_clear_4 rfl 1 rfl ?_
  refine s_cu (d := d + 0) (As := [vA (mg Γ) l1]) (st := []) (owner := "LazyForge$Part") o (gr_clear_0 hr v1 l1) rfl (lw_all_tbl q1670) (lw_all_tbl q1662) (Or.inr ⟨_, _, _, (lw_all_tbl q1661), (lw_all_tbl q1692)⟩) ⟨by decide, by decide⟩ (by decide +kernel) wt_0 rfl dX22_clear_5 rfl (rs := fun _ => []) (fun _ => rfl) (fun _ _ => ?_)
  refine s_aload_n o dX22_clear_8 rfl 0 rfl ?_
  refine r_getf (vA (mg Γ)) rfl o cf_X22_parts0 (Or.inl (lw_all_tbl q1499)) dX22_clear_9 (fun v2 hv2 => ?_)
  refine r_astore_n o dX22_clear_12 rfl rfl ⟨(Nat.ne_of_beq_eq_false rfl), (fun _ => (vA_cat (mg Γ) l0)), ⟨(Nat.ne_of_beq_eq_false rfl), (fun _ => (vA_cat (mg Γ) l1)), trivial⟩⟩ ?_
  refine s_aload_n o dX22_clear_13 rfl 0 rfl ?_
  refine s_alen o dX22_clear_14 (fun v3 hv3 => ?_)
  refine r_istore_n o dX22_clear_15 rfl rfl ⟨(Nat.ne_of_beq_eq_false rfl), (fun _ => (vA_cat (mg Γ) v2)), ⟨(Nat.ne_of_beq_eq_false rfl), (fun _ => (vA_cat (mg Γ) l0)), ⟨(Nat.ne_of_beq_eq_false rfl), (fun _ => (vA_cat (mg Γ) l1)), trivial⟩⟩⟩ ?_
  refine s_iconst o dX22_clear_16 ?_
  refine r_istore o dX22_clear_17 rfl ⟨(Nat.ne_of_beq_eq_false rfl), (fun _ => rfl), ⟨(Nat.ne_of_beq_eq_false rfl), (fun _ => (vA_cat (mg Γ) v2)), ⟨(Nat.ne_of_beq_eq_false rfl), (fun _ => (vA_cat (mg Γ) l0)), ⟨(Nat.ne_of_beq_eq_false rfl), (fun _ => (vA_cat (mg Γ) l1)), trivial⟩⟩⟩⟩ ?_
  refine r_to [(1, vA (mg Γ) l1), (2, vA (mg Γ) v2), (3, vI v3), (4, vI 0)] [4, 2, 1, 0] rfl ?_
  refine sb_X22_clear_19 hr o _ ?_ l1 v2 v3 0 (rN hv3) (r32 rfl)
  · exact s_vret o rfl dX22_clear_43 (fun _ hh => hh)
abbrev okb_X21_clear_19 (x : Int × Int × Int × Int) : Prop := R32 x.2.2.1 ∧ R32 x.2.2.2
abbrev lvb_X21_clear_19 (Γ : Gm) (x : Int × Int × Int × Int) : List (Nat × Value) := [(1, vA (mg Γ) x.1), (2, vA (mg Γ) x.2.1), (3, vI x.2.2.1), (4, vI x.2.2.2)]
noncomputable def b_X21_clear_19b (rc : Rc) {A : Type} (k_43 : Mo CH A) (l1 : Int) (l2 : Int) (l3 : Int) (l4 : Int) : Mo CH ((Int × Int × Int × Int) ⊕ A) :=
  if l3 ≤ l4 then
    lo k_43
  else
    bnd (ald 5 l2 l4) fun v1 =>
    bnd (rc 0 v1 l1 0 0 0) fun _ =>
    pr (.inl (l1, l2, l3, (w32 (l4 + 1))))
theorem sb_X21_clear_19b {Γ : Gm} {ts : TS} {d : Nat} {rc : Rc} (hr : GR_clear (mg Γ) ts (d + 0) rc) (o : Ok Γ "LazyForge$Apply" cX21_clear 6 (Option.none : Option Jvm.ClassFile.FieldType) (d + 1)) {A : Type} {K : A → CH → Prop} (k_43 : Mo CH A) (hk_43 : Sx Γ (fun h => (h, ts)) K 43 [] [] (k_43)) (l1 : Int) (l2 : Int) (l3 : Int) (l4 : Int) (hl3 : R32 l3) (hl4 : R32 l4) : Sx Γ (fun h => (h, ts)) (KL Γ (fun h => (h, ts)) okb_X21_clear_19 K 19 (lvb_X21_clear_19 Γ) []) 19 [(1, vA (mg Γ) l1), (2, vA (mg Γ) l2), (3, vI l3), (4, vI l4)] [] (b_X21_clear_19b rc k_43 l1 l2 l3 l4) := by
  unfold b_X21_clear_19b
  refine s_iload o dX21_clear_19 3 rfl ?_
  refine s_iload_n o dX21_clear_21 rfl 2 rfl ?_
  refine s_icmp_ge (tgt := 43) o dX21_clear_22 (by decide) hl4 hl3 ?_ ?_
  · refine r_to [] [] rfl ?_
    exact s_lo hk_43
  · refine s_aload_n o dX21_clear_25 rfl 1 rfl ?_
    refine s_iload o dX21_clear_26 3 rfl ?_
    refine r_aald (kd := 5) o (by decide) rfl hl4 dX21_clear_28 (fun v1 => ?_)
    refine r_astore o dX21_clear_29 rfl ⟨(Nat.ne_of_beq_eq_false rfl), (fun _ => (vA_cat (mg Γ) l1)), ⟨(Nat.ne_of_beq_eq_false rfl), (fun _ => (vA_cat (mg Γ) l2)), ⟨(Nat.ne_of_beq_eq_false rfl), (fun _ => rfl), ⟨(Nat.ne_of_beq_eq_false rfl), (fun _ => rfl), trivial⟩⟩⟩⟩ ?_
    refine s_aload o dX21_clear_31 0 rfl ?_
    refine s_aload_n o dX21_clear_33 rfl 1 rfl ?_
    refine s_cu (d := d + 0) (As := [vA (mg Γ) l1]) (st := []) (owner := "LazyForge$Part") o (gr_clear_0 hr v1 l1) rfl (lw_all_tbl q1667) (lw_all_tbl q1662) (Or.inr ⟨_, _, _, (lw_all_tbl q1661), (lw_all_tbl q1692)⟩) ⟨by decide, by decide⟩ (by decide +kernel) wt_0 rfl dX21_clear_34 rfl (rs := fun _ => []) (fun _ => rfl) (fun _ _ => ?_)
    refine r_iinc (j := 4) o dX21_clear_37 rfl rfl [(5, vA (mg Γ) v1), (1, vA (mg Γ) l1), (2, vA (mg Γ) l2), (3, vI l3)] [0, 1, 2, 3] rfl ⟨(Nat.ne_of_beq_eq_false rfl), (fun _ => (vA_cat (mg Γ) v1)), ⟨(Nat.ne_of_beq_eq_false rfl), (fun _ => (vA_cat (mg Γ) l1)), ⟨(Nat.ne_of_beq_eq_false rfl), (fun _ => (vA_cat (mg Γ) l2)), ⟨(Nat.ne_of_beq_eq_false rfl), (fun _ => rfl), trivial⟩⟩⟩⟩ ?_
    refine s_goto (tgt := 19) o dX21_clear_40 (by decide) ?_
    refine r_to [(1, vA (mg Γ) l1), (2, vA (mg Γ) l2), (3, vI l3), (4, vI (w32 (l4 + 1)))] [2, 3, 4, 0] rfl ?_
    exact s_back (⟨hl3, (w32_R _)⟩) rfl
noncomputable def b_X21_clear_19 (rc : Rc) {A : Type} (k_43 : Mo CH A) (l1 : Int) (l2 : Int) (l3 : Int) (l4 : Int) : Mo CH A := Loop (fun x => b_X21_clear_19b rc k_43 x.1 x.2.1 x.2.2.1 x.2.2.2) (l1, l2, l3, l4)
theorem sb_X21_clear_19 {Γ : Gm} {ts : TS} {d : Nat} {rc : Rc} (hr : GR_clear (mg Γ) ts (d + 0) rc) (o : Ok Γ "LazyForge$Apply" cX21_clear 6 (Option.none : Option Jvm.ClassFile.FieldType) (d + 1)) {A : Type} {K : A → CH → Prop} (k_43 : Mo CH A) (hk_43 : Sx Γ (fun h => (h, ts)) K 43 [] [] (k_43)) (l1 : Int) (l2 : Int) (l3 : Int) (l4 : Int) (hl3 : R32 l3) (hl4 : R32 l4) : Sx Γ (fun h => (h, ts)) K 19 [(1, vA (mg Γ) l1), (2, vA (mg Γ) l2), (3, vI l3), (4, vI l4)] [] (b_X21_clear_19 rc k_43 l1 l2 l3 l4) :=
  s_loop okb_X21_clear_19 (lvb_X21_clear_19 Γ) (fun x hx => sb_X21_clear_19b hr o k_43 hk_43 x.1 x.2.1 x.2.2.1 x.2.2.2 hx.1 hx.2) (x := (l1, l2, l3, l4)) ⟨hl3, hl4⟩
noncomputable def b_X21_clear (rc : Rc) (l0 : Int) (l1 : Int) : Mo CH Int :=
  bnd (gf [121] 5 l0) fun v1 =>
  bnd (rc 0 v1 l1 0 0 0) fun _ =>
  bnd (gf [121] 6 l0) fun v2 =>
  bnd (aln v2) fun v3 =>
  b_X21_clear_19 rc
    (pr 0) l1 v2 v3 0
theorem sb_X21_clear (g : gC) (d : Nat) (ts : TS) (rc : Rc) (hr : GR_clear g ts (d + 0) rc) (l0 : Int) (l1 : Int) : SF g yX21_clear (Cond.code yX21_clear cX21_clear 6 (Option.none : Option Jvm.ClassFile.FieldType)) (Option.none : Option Jvm.ClassFile.FieldType) (d + 1) [vA g l0, vA g l1] (fun h => (h, ts)) (b_X21_clear rc l0 l1) := by
  refine SF.of (lv := [(0, vA g l0), (1, vA g l1)]) (by decide) (wt_A (wt_A wt_0)) rfl (by simp only [la_A, la_I, la_J, la_0]) (fun Γ hg hnm o => ?_)
  subst hg
  have o : Ok Γ "LazyForge$Apply" cX21_clear 6 (Option.none : Option Jvm.ClassFile.FieldType) (d + 1) := o
  unfold b_X21_clear
  refine s_aload_n o dX21_clear_0 rfl 0 rfl ?_
  refine r_getf (vA (mg Γ)) rfl o cf_X21_head (Or.inl (lw_all_tbl q1468)) dX21_clear_1 (fun v1 hv1 => ?_)
  refine s_aload_n o dX21_clear_4 rfl 1 rfl ?_
  refine s_cu (d := d + 0) (As := [vA (mg Γ) l1]) (st := []) (owner := "LazyForge$Part") o (gr_clear_0 hr v1 l1) rfl (lw_all_tbl q1667) (lw_all_tbl q1662) (Or.inr ⟨_, _, _, (lw_all_tbl q1661), (lw_all_tbl q1692)⟩) ⟨by decide, by decide⟩ (by decide +kernel) wt_0 rfl dX21_clear_5 rfl (rs := fun _ => []) (fun _ => rfl) (fun _ _ => ?_)
  refine s_aload_n o dX21_clear_8 rfl 0 rfl ?_
  refine r_getf (vA (mg Γ)) rfl o cf_X21_arguments (Or.inl (lw_all_tbl q1469)) dX21_clear_9 (fun v2 hv2 => ?_)
  refine r_astore_n o dX21_clear_12 rfl rfl ⟨(Nat.ne_of_beq_eq_false rfl), (fun _ => (vA_cat (mg Γ) l0)), ⟨(Nat.ne_of_beq_eq_false rfl), (fun _ => (vA_cat (mg Γ) l1)), trivial⟩⟩ ?_
  refine s_aload_n o dX21_clear_13 rfl 0 rfl ?_
  refine s_alen o dX21_clear_14 (fun v3 hv3 => ?_)
  refine r_istore_n o dX21_clear_15 rfl rfl ⟨(Nat.ne_of_beq_eq_false rfl), (fun _ => (vA_cat (mg Γ) v2)), ⟨(Nat.ne_of_beq_eq_false rfl), (fun _ => (vA_cat (mg Γ) l0)), ⟨(Nat.ne_of_beq_eq_false rfl), (fun _ => (vA_cat (mg Γ) l1)), trivial⟩⟩⟩ ?_
  refine s_iconst o dX21_clear_16 ?_
  refine r_istore o dX21_clear_17 rfl ⟨(Nat.ne_of_beq_eq_false rfl), (fun _ => rfl), ⟨(Nat.ne_of_beq_eq_false rfl), (fun _ => (vA_cat (mg Γ) v2)), ⟨(Nat.ne_of_beq_eq_false rfl), (fun _ => (vA_cat (mg Γ) l0)), ⟨(Nat.ne_of_beq_eq_false rfl), (fun _ => (vA_cat (mg Γ) l1)), trivial⟩⟩⟩⟩ ?_
  refine r_to [(1, vA (mg Γ) l1), (2, vA (mg Γ) v2), (3, vI v3), (4, vI 0)] [4, 2, 1, 0] rfl ?_
  refine sb_X21_clear_19 hr o _ ?_ l1 v2 v3 0 (rN hv3) (r32 rfl)
  · exact s_vret o rfl dX21_clear_43 (fun _ hh => hh)
abbrev okb_X18_clear_48 (x : Int × Int × Int × Int × Int) : Prop := R32 x.2.2.2.1 ∧ R32 x.2.2.2.2
abbrev lvb_X18_clear_48 (Γ : Gm) (x : Int × Int × Int × Int × Int) : List (Nat × Value) := [(0, vA (mg Γ) x.1), (1, vA (mg Γ) x.2.1), (2, vA (mg Γ) x.2.2.1), (3, vI x.2.2.2.1), (4, vI x.2.2.2.2)]
noncomputable def b_X18_clear_48b (rc : Rc) {A : Type} (k_72 : Int → Int → Mo CH A) (l0 : Int) (l1 : Int) (l2 : Int) (l3 : Int) (l4 : Int) : Mo CH ((Int × Int × Int × Int × Int) ⊕ A) :=
  if l3 ≤ l4 then
    lo (k_72 l0 l1)
  else
    bnd (ald 5 l2 l4) fun v1 =>
    bnd (rc 0 v1 l1 0 0 0) fun _ =>
    pr (.inl (l0, l1, l2, l3, (w32 (l4 + 1))))
theorem sb_X18_clear_48b {Γ : Gm} {ts : TS} {d : Nat} {rc : Rc} (hr : GR_clear (mg Γ) ts (d + 0) rc) (o : Ok Γ "LazyForge$Let" cX18_clear 6 (Option.none : Option Jvm.ClassFile.FieldType) (d + 1)) {A : Type} {K : A → CH → Prop} (k_72 : Int → Int → Mo CH A) (hk_72 : ∀ (l0 : Int) (l1 : Int), Sx Γ (fun h => (h, ts)) K 72 [(0, vA (mg Γ) l0), (1, vA (mg Γ) l1)] [] (k_72 l0 l1)) (l0 : Int) (l1 : Int) (l2 : Int) (l3 : Int) (l4 : Int) (hl3 : R32 l3) (hl4 : R32 l4) : Sx Γ (fun h => (h, ts)) (KL Γ (fun h => (h, ts)) okb_X18_clear_48 K 48 (lvb_X18_clear_48 Γ) []) 48 [(0, vA (mg Γ) l0), (1, vA (mg Γ) l1), (2, vA (mg Γ) l2), (3, vI l3), (4, vI l4)] [] (b_X18_clear_48b rc k_72 l0 l1 l2 l3 l4) := by
  unfold b_X18_clear_48b
  refine s_iload o dX18_clear_48 4 rfl ?_
  refine s_iload_n o dX18_clear_50 rfl 3 rfl ?_
  refine s_icmp_ge (tgt := 72) o dX18_clear_51 (by decide) hl4 hl3 ?_ ?_
  · refine r_to [(0, vA (mg Γ) l0), (1, vA (mg Γ) l1)] [0, 1] rfl ?_
    exact s_lo (hk_72 l0 l1)
  · refine s_aload_n o dX18_clear_54 rfl 2 rfl ?_
    refine s_iload o dX18_clear_55 4 rfl ?_
    refine r_aald (kd := 5) o (by decide) rfl hl4 dX18_clear_57 (fun v1 => ?_)
    refine r_astore o dX18_clear_58 rfl ⟨(Nat.ne_of_beq_eq_false rfl), (fun _ => (vA_cat (mg Γ) l0)), ⟨(Nat.ne_of_beq_eq_false rfl), (fun _ => (vA_cat (mg Γ) l1)), ⟨(Nat.ne_of_beq_eq_false rfl), (fun _ => (vA_cat (mg Γ) l2)), ⟨(Nat.ne_of_beq_eq_false rfl), (fun _ => rfl), ⟨(Nat.ne_of_beq_eq_false rfl), (fun _ => rfl), trivial⟩⟩⟩⟩⟩ ?_
    refine s_aload o dX18_clear_60 0 rfl ?_
    refine s_aload_n o dX18_clear_62 rfl 2 rfl ?_
    refine s_cu (d := d + 0) (As := [vA (mg Γ) l1]) (st := []) (owner := "LazyForge$Part") o (gr_clear_0 hr v1 l1) rfl (lw_all_tbl q1673) (lw_all_tbl q1662) (Or.inr ⟨_, _, _, (lw_all_tbl q1661), (lw_all_tbl q1692)⟩) ⟨by decide, by decide⟩ (by decide +kernel) wt_0 rfl dX18_clear_63 rfl (rs := fun _ => []) (fun _ => rfl) (fun _ _ => ?_)
    refine r_iinc (j := 5) o dX18_clear_66 rfl rfl [(5, vA (mg Γ) v1), (0, vA (mg Γ) l0), (1, vA (mg Γ) l1), (2, vA (mg Γ) l2), (3, vI l3)] [0, 1, 2, 3, 4] rfl ⟨(Nat.ne_of_beq_eq_false rfl), (fun _ => (vA_cat (mg Γ) v1)), ⟨(Nat.ne_of_beq_eq_false rfl), (fun _ => (vA_cat (mg Γ) l0)), ⟨(Nat.ne_of_beq_eq_false rfl), (fun _ => (vA_cat (mg Γ) l1)), ⟨(Nat.ne_of_beq_eq_false rfl), (fun _ => (vA_cat (mg Γ) l2)), ⟨(Nat.ne_of_beq_eq_false rfl), (fun _ => rfl), trivial⟩⟩⟩⟩⟩ ?_
    refine s_goto (tgt := 48) o dX18_clear_69 (by decide) ?_
    refine r_to [(0, vA (mg Γ) l0), (1, vA (mg Γ) l1), (2, vA (mg Γ) l2), (3, vI l3), (4, vI (w32 (l4 + 1)))] [2, 3, 4, 5, 0] rfl ?_
    exact s_back (⟨hl3, (w32_R _)⟩) rfl
noncomputable def b_X18_clear_48 (rc : Rc) {A : Type} (k_72 : Int → Int → Mo CH A) (l0 : Int) (l1 : Int) (l2 : Int) (l3 : Int) (l4 : Int) : Mo CH A := Loop (fun x => b_X18_clear_48b rc k_72 x.1 x.2.1 x.2.2.1 x.2.2.2.1 x.2.2.2.2) (l0, l1, l2, l3, l4)
theorem sb_X18_clear_48 {Γ : Gm} {ts : TS} {d : Nat} {rc : Rc} (hr : GR_clear (mg Γ) ts (d + 0) rc) (o : Ok Γ "LazyForge$Let" cX18_clear 6 (Option.none : Option Jvm.ClassFile.FieldType) (d + 1)) {A : Type} {K : A → CH → Prop} (k_72 : Int → Int → Mo CH A) (hk_72 : ∀ (l0 : Int) (l1 : Int), Sx Γ (fun h => (h, ts)) K 72 [(0, vA (mg Γ) l0), (1, vA (mg Γ) l1)] [] (k_72 l0 l1)) (l0 : Int) (l1 : Int) (l2 : Int) (l3 : Int) (l4 : Int) (hl3 : R32 l3) (hl4 : R32 l4) : Sx Γ (fun h => (h, ts)) K 48 [(0, vA (mg Γ) l0), (1, vA (mg Γ) l1), (2, vA (mg Γ) l2), (3, vI l3), (4, vI l4)] [] (b_X18_clear_48 rc k_72 l0 l1 l2 l3 l4) :=
  s_loop okb_X18_clear_48 (lvb_X18_clear_48 Γ) (fun x hx => sb_X18_clear_48b hr o k_72 hk_72 x.1 x.2.1 x.2.2.1 x.2.2.2.1 x.2.2.2.2 hx.1 hx.2) (x := (l0, l1, l2, l3, l4)) ⟨hl3, hl4⟩
abbrev okb_X18_clear_11 (x : Int × Int × Int × Int × Int) : Prop := R32 x.2.2.2.1 ∧ R32 x.2.2.2.2
abbrev lvb_X18_clear_11 (Γ : Gm) (x : Int × Int × Int × Int × Int) : List (Nat × Value) := [(0, vA (mg Γ) x.1), (1, vA (mg Γ) x.2.1), (2, vA (mg Γ) x.2.2.1), (3, vI x.2.2.2.1), (4, vI x.2.2.2.2)]
noncomputable def b_X18_clear_11b (rc : Rc) {A : Type} (k_37 : Int → Int → Mo CH A) (l0 : Int) (l1 : Int) (l2 : Int) (l3 : Int) (l4 : Int) : Mo CH ((Int × Int × Int × Int × Int) ⊕ A) :=
  if l3 ≤ l4 then
    lo (k_37 l0 l1)
  else
    bnd (ald 7 l2 l4) fun v1 =>
    bnd (gf [117] 1 v1) fun v2 =>
    bnd (ast 3 l1 v2 0) fun _ =>
    pr (.inl (l0, l1, l2, l3, (w32 (l4 + 1))))
theorem sb_X18_clear_11b {Γ : Gm} {ts : TS} {d : Nat} {rc : Rc} (hr : GR_clear (mg Γ) ts (d + 0) rc) (o : Ok Γ "LazyForge$Let" cX18_clear 6 (Option.none : Option Jvm.ClassFile.FieldType) (d + 1)) {A : Type} {K : A → CH → Prop} (k_37 : Int → Int → Mo CH A) (hk_37 : ∀ (l0 : Int) (l1 : Int), Sx Γ (fun h => (h, ts)) K 37 [(0, vA (mg Γ) l0), (1, vA (mg Γ) l1)] [] (k_37 l0 l1)) (l0 : Int) (l1 : Int) (l2 : Int) (l3 : Int) (l4 : Int) (hl3 : R32 l3) (hl4 : R32 l4) : Sx Γ (fun h => (h, ts)) (KL Γ (fun h => (h, ts)) okb_X18_clear_11 K 11 (lvb_X18_clear_11 Γ) []) 11 [(0, vA (mg Γ) l0), (1, vA (mg Γ) l1), (2, vA (mg Γ) l2), (3, vI l3), (4, vI l4)] [] (b_X18_clear_11b rc k_37 l0 l1 l2 l3 l4) := by
  unfold b_X18_clear_11b
  refine s_iload o dX18_clear_11 4 rfl ?_
  refine s_iload_n o dX18_clear_13 rfl 3 rfl ?_
  refine s_icmp_ge (tgt := 37) o dX18_clear_14 (by decide) hl4 hl3 ?_ ?_
  · refine r_to [(0, vA (mg Γ) l0), (1, vA (mg Γ) l1)] [0, 1] rfl ?_
    exact s_lo (hk_37 l0 l1)
  · refine s_aload_n o dX18_clear_17 rfl 2 rfl ?_
    refine s_iload o dX18_clear_18 4 rfl ?_
    refine r_aald (kd := 7) o (by decide) rfl hl4 dX18_clear_20 (fun v1 => ?_)
    refine r_astore o dX18_clear_21 rfl ⟨(Nat.ne_of_beq_eq_false rfl), (fun _ => (vA_cat (mg Γ) l0)), ⟨(Nat.ne_of_beq_eq_false rfl), (fun _ => (vA_cat (mg Γ) l1)), ⟨(Nat.ne_of_beq_eq_false rfl), (fun _ => (vA_cat (mg Γ) l2)), ⟨(Nat.ne_of_beq_eq_false rfl), (fun _ => rfl), ⟨(Nat.ne_of_beq_eq_false rfl), (fun _ => rfl), trivial⟩⟩⟩⟩⟩ ?_
    refine s_aload_n o dX18_clear_23 rfl 2 rfl ?_
    refine s_aload o dX18_clear_24 0 rfl ?_
    refine r_getf vI rfl o cf_X17_number (Or.inr (Or.inl ⟨_, q1290⟩)) dX18_clear_26 (fun v2 hv2 => ?_)
    refine s_iconst o dX18_clear_29 ?_
    refine r_zast o hv2 (Or.inl rfl) dX18_clear_30 ?_
    refine r_iinc (j := 5) o dX18_clear_31 rfl rfl [(5, vA (mg Γ) v1), (0, vA (mg Γ) l0), (1, vA (mg Γ) l1), (2, vA (mg Γ) l2), (3, vI l3)] [0, 1, 2, 3, 4] rfl ⟨(Nat.ne_of_beq_eq_false rfl), (fun _ => (vA_cat (mg Γ) v1)), ⟨(Nat.ne_of_beq_eq_false rfl), (fun _ => (vA_cat (mg Γ) l0)), ⟨(Nat.ne_of_beq_eq_false rfl), (fun _ => (vA_cat (mg Γ) l1)), ⟨(Nat.ne_of_beq_eq_false rfl), (fun _ => (vA_cat (mg Γ) l2)), ⟨(Nat.ne_of_beq_eq_false rfl), (fun _ => rfl), trivial⟩⟩⟩⟩⟩ ?_
    refine s_goto (tgt := 11) o dX18_clear_34 (by decide) ?_
    refine r_to [(0, vA (mg Γ) l0), (1, vA (mg Γ) l1), (2, vA (mg Γ) l2), (3, vI l3), (4, vI (w32 (l4 + 1)))] [2, 3, 4, 5, 0] rfl ?_
    exact s_back (⟨hl3, (w32_R _)⟩) rfl
noncomputable def b_X18_clear_11 (rc : Rc) {A : Type} (k_37 : Int → Int → Mo CH A) (l0 : Int) (l1 : Int) (l2 : Int) (l3 : Int) (l4 : Int) : Mo CH A := Loop (fun x => b_X18_clear_11b rc k_37 x.1 x.2.1 x.2.2.1 x.2.2.2.1 x.2.2.2.2) (l0, l1, l2, l3, l4)
theorem sb_X18_clear_11 {Γ : Gm} {ts : TS} {d : Nat} {rc : Rc} (hr : GR_clear (mg Γ) ts (d + 0) rc) (o : Ok Γ "LazyForge$Let" cX18_clear 6 (Option.none : Option Jvm.ClassFile.FieldType) (d + 1)) {A : Type} {K : A → CH → Prop} (k_37 : Int → Int → Mo CH A) (hk_37 : ∀ (l0 : Int) (l1 : Int), Sx Γ (fun h => (h, ts)) K 37 [(0, vA (mg Γ) l0), (1, vA (mg Γ) l1)] [] (k_37 l0 l1)) (l0 : Int) (l1 : Int) (l2 : Int) (l3 : Int) (l4 : Int) (hl3 : R32 l3) (hl4 : R32 l4) : Sx Γ (fun h => (h, ts)) K 11 [(0, vA (mg Γ) l0), (1, vA (mg Γ) l1), (2, vA (mg Γ) l2), (3, vI l3), (4, vI l4)] [] (b_X18_clear_11 rc k_37 l0 l1 l2 l3 l4) :=
  s_loop okb_X18_clear_11 (lvb_X18_clear_11 Γ) (fun x hx => sb_X18_clear_11b hr o k_37 hk_37 x.1 x.2.1 x.2.2.1 x.2.2.2.1 x.2.2.2.2 hx.1 hx.2) (x := (l0, l1, l2, l3, l4)) ⟨hl3, hl4⟩
noncomputable def b_X18_clear (rc : Rc) (l0 : Int) (l1 : Int) : Mo CH Int :=
  bnd (gf [118] 5 l0) fun v1 =>
  bnd (aln v1) fun v2 =>
  b_X18_clear_11 rc
    (fun v3 v4 => bnd (gf [118] 6 v3) fun v5 =>
  bnd (aln v5) fun v6 =>
  b_X18_clear_48 rc
    (fun v7 v8 => bnd (gf [118] 7 v7) fun v9 =>
  bnd (rc 0 v9 v8 0 0 0) fun _ =>
  pr 0) v3 v4 v5 v6 0) l0 l1 v1 v2 0
theorem sb_X18_clear (g : gC) (d : Nat) (ts : TS) (rc : Rc) (hr : GR_clear g ts (d + 0) rc) (l0 : Int) (l1 : Int) : SF g yX18_clear (Cond.code yX18_clear cX18_clear 6 (Option.none : Option Jvm.ClassFile.FieldType)) (Option.none : Option Jvm.ClassFile.FieldType) (d + 1) [vA g l0, vA g l1] (fun h => (h, ts)) (b_X18_clear rc l0 l1) := by
  refine SF.of (lv := [(0, vA g l0), (1, vA g l1)]) (by decide) (wt_A (wt_A wt_0)) rfl (by simp only [la_A, la_I, la_J, la_0]) (fun Γ hg hnm o => ?_)
  subst hg
  have o : Ok Γ "LazyForge$Let" cX18_clear 6 (Option.none : Option Jvm.ClassFile.FieldType) (d + 1) := o
  unfold b_X18_clear
  refine s_aload_n o dX18_clear_0 rfl 0 rfl ?_
  refine r_getf (vA (mg Γ)) rfl o cf_X18_names (Or.inl (lw_all_tbl q1335)) dX18_clear_1 (fun v1 hv1 => ?_)
  refine r_astore_n o dX18_clear_4 rfl rfl ⟨(Nat.ne_of_beq_eq_false rfl), (fun _ => (vA_cat (mg Γ) l0)), ⟨(Nat.ne_of_beq_eq_false rfl), (fun _ => (vA_cat (mg Γ) l1)), trivial⟩⟩ ?_
  refine s_aload_n o dX18_clear_5 rfl 0 rfl ?_
  refine s_alen o dX18_clear_6 (fun v2 hv2 => ?_)
  refine r_istore_n o dX18_clear_7 rfl rfl ⟨(Nat.ne_of_beq_eq_false rfl), (fun _ => (vA_cat (mg Γ) v1)), ⟨(Nat.ne_of_beq_eq_false rfl), (fun _ => (vA_cat (mg Γ) l0)), ⟨(Nat.ne_of_beq_eq_false rfl), (fun _ => (vA_cat (mg Γ) l1)), trivial⟩⟩⟩ ?_
  refine s_iconst o dX18_clear_8 ?_
  refine r_istore o dX18_clear_9 rfl ⟨(Nat.ne_of_beq_eq_false rfl), (fun _ => rfl), ⟨(Nat.ne_of_beq_eq_false rfl), (fun _ => (vA_cat (mg Γ) v1)), ⟨(Nat.ne_of_beq_eq_false rfl), (fun _ => (vA_cat (mg Γ) l0)), ⟨(Nat.ne_of_beq_eq_false rfl), (fun _ => (vA_cat (mg Γ) l1)), trivial⟩⟩⟩⟩ ?_
  refine r_to [(0, vA (mg Γ) l0), (1, vA (mg Γ) l1), (2, vA (mg Γ) v1), (3, vI v2), (4, vI 0)] [3, 4, 2, 1, 0] rfl ?_
  refine sb_X18_clear_11 hr o _ ?_ l0 l1 v1 v2 0 (rN hv2) (r32 rfl)
  · intro v3 v4
    refine s_aload_n o dX18_clear_37 rfl 0 rfl ?_
    refine r_getf (vA (mg Γ)) rfl o cf_X18_bound (Or.inl (lw_all_tbl q1336)) dX18_clear_38 (fun v5 hv5 => ?_)
    refine r_astore_n o dX18_clear_41 rfl rfl ⟨(Nat.ne_of_beq_eq_false rfl), (fun _ => (vA_cat (mg Γ) v3)), ⟨(Nat.ne_of_beq_eq_false rfl), (fun _ => (vA_cat (mg Γ) v4)), trivial⟩⟩ ?_
    refine s_aload_n o dX18_clear_42 rfl 0 rfl ?_
    refine s_alen o dX18_clear_43 (fun v6 hv6 => ?_)
    refine r_istore_n o dX18_clear_44 rfl rfl ⟨(Nat.ne_of_beq_eq_false rfl), (fun _ => (vA_cat (mg Γ) v5)), ⟨(Nat.ne_of_beq_eq_false rfl), (fun _ => (vA_cat (mg Γ) v3)), ⟨(Nat.ne_of_beq_eq_false rfl), (fun _ => (vA_cat (mg Γ) v4)), trivial⟩⟩⟩ ?_
    refine s_iconst o dX18_clear_45 ?_
    refine r_istore o dX18_clear_46 rfl ⟨(Nat.ne_of_beq_eq_false rfl), (fun _ => rfl), ⟨(Nat.ne_of_beq_eq_false rfl), (fun _ => (vA_cat (mg Γ) v5)), ⟨(Nat.ne_of_beq_eq_false rfl), (fun _ => (vA_cat (mg Γ) v3)), ⟨(Nat.ne_of_beq_eq_false rfl), (fun _ => (vA_cat (mg Γ) v4)), trivial⟩⟩⟩⟩ ?_
    refine r_to [(0, vA (mg Γ) v3), (1, vA (mg Γ) v4), (2, vA (mg Γ) v5), (3, vI v6), (4, vI 0)] [3, 4, 2, 1, 0] rfl ?_
    refine sb_X18_clear_48 hr o _ ?_ v3 v4 v5 v6 0 (rN hv6) (r32 rfl)
    · intro v7 v8
      refine s_aload_n o dX18_clear_72 rfl 0 rfl ?_
      refine r_getf (vA (mg Γ)) rfl o cf_X18_body (Or.inl (lw_all_tbl q1337)) dX18_clear_73 (fun v9 hv9 => ?_)
      refine s_aload_n o dX18_clear_76 rfl 1 rfl ?_
      refine s_cu (d := d + 0) (As := [vA (mg Γ) v8]) (st := []) (owner := "LazyForge$Part") o (gr_clear_0 hr v9 v8) rfl (lw_all_tbl q1673) (lw_all_tbl q1662) (Or.inr ⟨_, _, _, (lw_all_tbl q1661), (lw_all_tbl q1692)⟩) ⟨by decide, by decide⟩ (by decide +kernel) wt_0 rfl dX18_clear_77 rfl (rs := fun _ => []) (fun _ => rfl) (fun _ _ => ?_)
      exact s_vret o rfl dX18_clear_80 (fun _ hh => hh)
noncomputable def v_X4_clear_b (rc : Rc) (l0 : Int) (l1 : Int) : Mo CH Int := dsp l0 [([106, 107, 108, 109, 110, 119, 120, 124, 126], c_X4_clear l0 l1), ([118], b_X18_clear rc l0 l1), ([121], b_X21_clear rc l0 l1), ([122], b_X22_clear rc l0 l1), ([123], b_X23_clear rc l0 l1), ([125], b_X25_clear rc l0 l1)]
theorem sv_X4_clear_b (g : gC) (d : Nat) (ts : TS) (rc : Rc) (hr : GR_clear g ts (d + 0) rc) (l0 : Int) (l1 : Int) : VR g ts ⟨"LazyForge$Part", "clear", "([Z)V"⟩ none 1 (d + 1) l0 [vA g l1] (v_X4_clear_b rc l0 l1) := (VR.cons (x0 := ⟨"LazyForge$Part", "clear", "([Z)V"⟩) ⟨⟨6, _, rfl, rfl, (lw_all_tbl q1690)⟩, ⟨⟨7, _, rfl, rfl, (lw_all_tbl q1684)⟩, ⟨⟨8, _, rfl, rfl, (lw_all_tbl q1663)⟩, ⟨⟨9, _, rfl, rfl, (lw_all_tbl q1681)⟩, ⟨⟨10, _, rfl, rfl, (lw_all_tbl q1683)⟩, ⟨⟨19, _, rfl, rfl, (lw_all_tbl q1688)⟩, ⟨⟨20, _, rfl, rfl, (lw_all_tbl q1691)⟩, ⟨⟨24, _, rfl, rfl, (lw_all_tbl q1686)⟩, ⟨⟨26, _, rfl, rfl, (lw_all_tbl q1682)⟩, trivial⟩⟩⟩⟩⟩⟩⟩⟩⟩ (lw_all_tbl q1661) mw_X4_clear (sc_X4_clear g (d + 1) ts l0 l1) (VR.cons (x0 := ⟨"LazyForge$Part", "clear", "([Z)V"⟩) ⟨⟨18, _, rfl, rfl, (lw_all_tbl q1685)⟩, trivial⟩ (lw_all_tbl q1671) mw_X18_clear (sb_X18_clear g d ts rc hr l0 l1) (VR.cons (x0 := ⟨"LazyForge$Part", "clear", "([Z)V"⟩) ⟨⟨21, _, rfl, rfl, (lw_all_tbl q1664)⟩, trivial⟩ (lw_all_tbl q1665) mw_X21_clear (sb_X21_clear g d ts rc hr l0 l1) (VR.cons (x0 := ⟨"LazyForge$Part", "clear", "([Z)V"⟩) ⟨⟨22, _, rfl, rfl, (lw_all_tbl q1680)⟩, trivial⟩ (lw_all_tbl q1668) mw_X22_clear (sb_X22_clear g d ts rc hr l0 l1) (VR.cons (x0 := ⟨"LazyForge$Part", "clear", "([Z)V"⟩) ⟨⟨23, _, rfl, rfl, (lw_all_tbl q1689)⟩, trivial⟩ (lw_all_tbl q1677) mw_X23_clear (sb_X23_clear g d ts rc hr l0 l1) (VR.cons (x0 := ⟨"LazyForge$Part", "clear", "([Z)V"⟩) ⟨⟨25, _, rfl, rfl, (lw_all_tbl q1687)⟩, trivial⟩ (lw_all_tbl q1674) mw_X25_clear (sb_X25_clear g d ts rc hr l0 l1) VR.nil))))))
noncomputable def G_clear (rc : Rc) : Rc := fun j a0 a1 a2 a3 a4 => match j with
  | 0 => v_X4_clear_b rc a0 a1
  | _ => no
noncomputable def R_clear : Nat → Rc
  | 0 => fun _ _ _ _ _ _ => no
  | n + 1 => G_clear (R_clear n)
theorem G_clear_ok (g : gC) (ts : TS) (d : Nat) (rc : Rc) (hr : GR_clear g ts (d + 0) rc) : GR_clear g ts (d + 1) (G_clear rc) := (fun l0 l1 => sv_X4_clear_b g d ts rc hr l0 l1)
theorem R_clear_ok (g : gC) (ts : TS) : ∀ n d, GR_clear g ts (d + 0 + n) (R_clear n)
  | 0, d => (fun _ _ _ _ _ e => by cases e)
  | n + 1, d => by
    have h := R_clear_ok g ts n d
    rw [show d + 0 + n = (d + n) + 0 by omega] at h
    have h := G_clear_ok g ts _ _ h
    rw [show d + 0 + (n + 1) = (d + n) + 1 by omega]
    exact h
noncomputable def v_X4_clear (l0 : Int) (l1 : Int) : Mo CH Int := R_clear 200 0 l0 l1 0 0 0
theorem sv_X4_clear (g : gC) (d : Nat) (ts : TS) (l0 : Int) (l1 : Int) : VR g ts ⟨"LazyForge$Part", "clear", "([Z)V"⟩ none 1 (d + 200) l0 [vA g l1] (v_X4_clear l0 l1) := by
  have h := R_clear_ok g ts 200 d
  rw [Nat.add_assoc] at h
  exact gr_clear_0 h l0 l1
theorem dX4_least_0 : decode cX4_least 0 = .ok (.aload_n 1, 1) := by decide +kernel
theorem dX4_least_1 : decode cX4_least 1 = .ok (.arraylength, 1) := by decide +kernel
theorem dX4_least_2 : decode cX4_least 2 = .ok (.iconst 1, 1) := by decide +kernel
theorem dX4_least_3 : decode cX4_least 3 = .ok (.isub, 1) := by decide +kernel
theorem dX4_least_4 : decode cX4_least 4 = .ok (.istore_n 2, 1) := by decide +kernel
theorem dX4_least_5 : decode cX4_least 5 = .ok (.aload_n 0, 1) := by decide +kernel
theorem dX4_least_6 : decode cX4_least 6 = .ok (.aload_n 1, 1) := by decide +kernel
theorem dX4_least_7 : decode cX4_least 7 = .ok (.invokevirtual 27, 3) := by decide +kernel
theorem dX4_least_10 : decode cX4_least 10 = .ok (.aload_n 1, 1) := by decide +kernel
theorem dX4_least_11 : decode cX4_least 11 = .ok (.iload_n 2, 1) := by decide +kernel
theorem dX4_least_12 : decode cX4_least 12 = .ok (.iconst 0, 1) := by decide +kernel
theorem dX4_least_13 : decode cX4_least 13 = .ok (.bastore, 1) := by decide +kernel
theorem dX4_least_14 : decode cX4_least 14 = .ok (.aload_n 0, 1) := by decide +kernel
theorem dX4_least_15 : decode cX4_least 15 = .ok (.aload_n 1, 1) := by decide +kernel
theorem dX4_least_16 : decode cX4_least 16 = .ok (.invokevirtual 31, 3) := by decide +kernel
theorem dX4_least_19 : decode cX4_least 19 = .ok (.istore_n 3, 1) := by decide +kernel
theorem dX4_least_20 : decode cX4_least 20 = .ok (.aload_n 1, 1) := by decide +kernel
theorem dX4_least_21 : decode cX4_least 21 = .ok (.iload_n 2, 1) := by decide +kernel
theorem dX4_least_22 : decode cX4_least 22 = .ok (.baload, 1) := by decide +kernel
theorem dX4_least_23 : decode cX4_least 23 = .ok (.ifCond .ne (-13), 3) := by decide +kernel
theorem dX4_least_26 : decode cX4_least 26 = .ok (.iload_n 3, 1) := by decide +kernel
theorem dX4_least_27 : decode cX4_least 27 = .ok (.ireturn, 1) := by decide +kernel
theorem mw_X4_least : MW yX4_least (Cond.code yX4_least cX4_least 4 (Option.some Jvm.ClassFile.FieldType.boolean)) cX4_least 4 (Option.some Jvm.ClassFile.FieldType.boolean) 1 := ⟨rfl, ⟨(lw_all_tbl q1659), rfl, (lw_all_tbl q166)⟩, rfl, ⟨by decide, by decide⟩, by decide +kernel⟩
abbrev okc_X4_least_10 (x : Int × Int × Int) : Prop := R32 x.2.2
abbrev lvc_X4_least_10 (Γ : Gm) (x : Int × Int × Int) : List (Nat × Value) := [(0, vA (mg Γ) x.1), (1, vA (mg Γ) x.2.1), (2, vI x.2.2)]
noncomputable def c_X4_least_10b {A : Type} (k_26 : Int → Mo CH A) (l0 : Int) (l1 : Int) (l2 : Int) : Mo CH ((Int × Int × Int) ⊕ A) :=
  bnd (ast 3 l1 l2 0) fun _ =>
  bnd (v_X4_bit l0 l1) fun v1 =>
  bnd (ald 3 l1 l2) fun v2 =>
  if ¬ v2 = 0 then
    pr (.inl (l0, l1, l2))
  else
    lo (k_26 v1)
theorem sc_X4_least_10b {Γ : Gm} {ts : TS} {d : Nat} (o : Ok Γ "LazyForge$Part" cX4_least 4 (Option.some Jvm.ClassFile.FieldType.boolean) (d + 204)) {A : Type} {K : A → CH → Prop} (k_26 : Int → Mo CH A) (hk_26 : ∀ (l3 : Int), rg .boolean l3 → Sx Γ (fun h => (h, ts)) K 26 [(3, vI l3)] [] (k_26 l3)) (l0 : Int) (l1 : Int) (l2 : Int) (hl2 : R32 l2) : Sx Γ (fun h => (h, ts)) (KL Γ (fun h => (h, ts)) okc_X4_least_10 K 10 (lvc_X4_least_10 Γ) []) 10 [(0, vA (mg Γ) l0), (1, vA (mg Γ) l1), (2, vI l2)] [] (c_X4_least_10b k_26 l0 l1 l2) := by
  unfold c_X4_least_10b
  refine s_aload_n o dX4_least_10 rfl 1 rfl ?_
  refine s_iload_n o dX4_least_11 rfl 2 rfl ?_
  refine s_iconst o dX4_least_12 ?_
  refine r_zast o hl2 (Or.inl rfl) dX4_least_13 ?_
  refine s_aload_n o dX4_least_14 rfl 0 rfl ?_
  refine s_aload_n o dX4_least_15 rfl 1 rfl ?_
  refine s_cu (d := d + 203) (As := [vA (mg Γ) l1]) (st := []) (owner := "LazyForge$Part") o (sv_X4_bit (mg Γ) d ts l0 l1) rfl (lw_all_tbl q1693) (lw_all_tbl q1695) (Or.inl q1694) ⟨by decide, by decide⟩ (by decide +kernel) wt_0 rfl dX4_least_16 rfl (rs := fun r => [vI r]) (fun _ => rfl) (fun v1 hv1 => ?_)
  refine r_istore_n o dX4_least_19 rfl rfl ⟨(Nat.ne_of_beq_eq_false rfl), (fun _ => (vA_cat (mg Γ) l0)), ⟨(Nat.ne_of_beq_eq_false rfl), (fun _ => (vA_cat (mg Γ) l1)), ⟨(Nat.ne_of_beq_eq_false rfl), (fun _ => rfl), trivial⟩⟩⟩ ?_
  refine s_aload_n o dX4_least_20 rfl 2 rfl ?_
  refine s_iload_n o dX4_least_21 rfl 3 rfl ?_
  refine r_zald o hl2 dX4_least_22 (fun v2 hv2 => ?_)
  refine s_if_ne (tgt := 10) o dX4_least_23 (by decide) (rZ hv2) ?_ ?_
  · refine r_to [(0, vA (mg Γ) l0), (1, vA (mg Γ) l1), (2, vI l2)] [1, 2, 3] rfl ?_
    exact s_back hl2 rfl
  · refine r_to [(3, vI v1)] [0] rfl ?_
    exact s_lo (hk_26 v1 (hv1 _ rfl))
noncomputable def c_X4_least_10 {A : Type} (k_26 : Int → Mo CH A) (l0 : Int) (l1 : Int) (l2 : Int) : Mo CH A := Loop (fun x => c_X4_least_10b k_26 x.1 x.2.1 x.2.2) (l0, l1, l2)
theorem sc_X4_least_10 {Γ : Gm} {ts : TS} {d : Nat} (o : Ok Γ "LazyForge$Part" cX4_least 4 (Option.some Jvm.ClassFile.FieldType.boolean) (d + 204)) {A : Type} {K : A → CH → Prop} (k_26 : Int → Mo CH A) (hk_26 : ∀ (l3 : Int), rg .boolean l3 → Sx Γ (fun h => (h, ts)) K 26 [(3, vI l3)] [] (k_26 l3)) (l0 : Int) (l1 : Int) (l2 : Int) (hl2 : R32 l2) : Sx Γ (fun h => (h, ts)) K 10 [(0, vA (mg Γ) l0), (1, vA (mg Γ) l1), (2, vI l2)] [] (c_X4_least_10 k_26 l0 l1 l2) :=
  s_loop okc_X4_least_10 (lvc_X4_least_10 Γ) (fun x hx => sc_X4_least_10b o k_26 hk_26 x.1 x.2.1 x.2.2 hx) (x := (l0, l1, l2)) hl2
noncomputable def c_X4_least (l0 : Int) (l1 : Int) : Mo CH Int :=
  bnd (aln l1) fun v1 =>
  bnd (v_X4_clear l0 l1) fun _ =>
  c_X4_least_10
    (fun v2 => pr v2) l0 l1 (w32 (v1 - 1))
theorem sc_X4_least (g : gC) (d : Nat) (ts : TS) (l0 : Int) (l1 : Int) : SF g yX4_least (Cond.code yX4_least cX4_least 4 (Option.some Jvm.ClassFile.FieldType.boolean)) (Option.some Jvm.ClassFile.FieldType.boolean) (d + 204) [vA g l0, vA g l1] (fun h => (h, ts)) (c_X4_least l0 l1) := by
  refine SF.of (lv := [(0, vA g l0), (1, vA g l1)]) (by decide) (wt_A (wt_A wt_0)) rfl (by simp only [la_A, la_I, la_J, la_0]) (fun Γ hg hnm o => ?_)
  subst hg
  have o : Ok Γ "LazyForge$Part" cX4_least 4 (Option.some Jvm.ClassFile.FieldType.boolean) (d + 204) := o
  unfold c_X4_least
  refine s_aload_n o dX4_least_0 rfl 1 rfl ?_
  refine s_alen o dX4_least_1 (fun v1 hv1 => ?_)
  refine s_iconst o dX4_least_2 ?_
  refine s_isub o dX4_least_3 ?_
  refine r_istore_n o dX4_least_4 rfl rfl ⟨(Nat.ne_of_beq_eq_false rfl), (fun _ => (vA_cat (mg Γ) l0)), ⟨(Nat.ne_of_beq_eq_false rfl), (fun _ => (vA_cat (mg Γ) l1)), trivial⟩⟩ ?_
  refine s_aload_n o dX4_least_5 rfl 1 rfl ?_
  refine s_aload_n o dX4_least_6 rfl 2 rfl ?_
  refine s_cu (d := d + 203) (As := [vA (mg Γ) l1]) (st := []) (owner := "LazyForge$Part") o (sv_X4_clear (mg Γ) (d + 3) ts l0 l1) rfl (lw_all_tbl q1660) (lw_all_tbl q1662) (Or.inr ⟨_, _, _, (lw_all_tbl q1661), (lw_all_tbl q1692)⟩) ⟨by decide, by decide⟩ (by decide +kernel) wt_0 rfl dX4_least_7 rfl (rs := fun _ => []) (fun _ => rfl) (fun _ _ => ?_)
  refine r_to [(0, vA (mg Γ) l0), (1, vA (mg Γ) l1), (2, vI (w32 (v1 - 1)))] [1, 2, 0] rfl ?_
  refine sc_X4_least_10 o _ ?_ l0 l1 (w32 (v1 - 1)) (w32_R _)
  · intro v2 hv2
    refine s_iload_n o dX4_least_26 rfl 0 rfl ?_
    exact s_iret o rfl i_boolean hv2 dX4_least_27 (fun _ hh => hh)
theorem dX4_has_0 : decode cX4_has 0 = .ok (.aload_n 0, 1) := by decide +kernel
theorem dX4_has_1 : decode cX4_has 1 = .ok (.dup, 1) := by decide +kernel
theorem dX4_has_2 : decode cX4_has 2 = .ok (.getfield 9, 3) := by decide +kernel
theorem dX4_has_5 : decode cX4_has 5 = .ok (.aload_n 1, 1) := by decide +kernel
theorem dX4_has_6 : decode cX4_has 6 = .ok (.getfield 9, 3) := by decide +kernel
theorem dX4_has_9 : decode cX4_has 9 = .ok (.iadd, 1) := by decide +kernel
theorem dX4_has_10 : decode cX4_has 10 = .ok (.putfield 9, 3) := by decide +kernel
theorem dX4_has_13 : decode cX4_has 13 = .ok (.aload_n 0, 1) := by decide +kernel
theorem dX4_has_14 : decode cX4_has 14 = .ok (.aload_n 0, 1) := by decide +kernel
theorem dX4_has_15 : decode cX4_has 15 = .ok (.getfield 15, 3) := by decide +kernel
theorem dX4_has_18 : decode cX4_has 18 = .ok (.aload_n 1, 1) := by decide +kernel
theorem dX4_has_19 : decode cX4_has 19 = .ok (.getfield 15, 3) := by decide +kernel
theorem dX4_has_22 : decode cX4_has 22 = .ok (.iconst 1, 1) := by decide +kernel
theorem dX4_has_23 : decode cX4_has 23 = .ok (.iadd, 1) := by decide +kernel
theorem dX4_has_24 : decode cX4_has 24 = .ok (.invokestatic 21, 3) := by decide +kernel
theorem dX4_has_27 : decode cX4_has 27 = .ok (.putfield 15, 3) := by decide +kernel
theorem dX4_has_30 : decode cX4_has 30 = .ok (.return_, 1) := by decide +kernel
theorem mw_X4_has : MW yX4_has (Cond.code yX4_has cX4_has 2 (Option.none : Option Jvm.ClassFile.FieldType)) cX4_has 2 (Option.none : Option Jvm.ClassFile.FieldType) 1 := ⟨rfl, ⟨(lw_all_tbl q1333), rfl, (lw_all_tbl q166)⟩, rfl, ⟨by decide, by decide⟩, by decide +kernel⟩
noncomputable def c_X4_has (l0 : Int) (l1 : Int) : Mo CH Int :=
  bnd (gf [106, 107, 108, 109, 110, 118, 119, 120, 121, 122, 123, 124, 125, 126] 0 l0) fun v1 =>
  bnd (gf [106, 107, 108, 109, 110, 118, 119, 120, 121, 122, 123, 124, 125, 126] 0 l1) fun v2 =>
  bnd (pf [106, 107, 108, 109, 110, 118, 119, 120, 121, 122, 123, 124, 125, 126] 0 l0 (w32 (v1 + v2))) fun _ =>
  bnd (gf [106, 107, 108, 109, 110, 118, 119, 120, 121, 122, 123, 124, 125, 126] 1 l0) fun v3 =>
  bnd (gf [106, 107, 108, 109, 110, 118, 119, 120, 121, 122, 123, 124, 125, 126] 1 l1) fun v4 =>
  bnd (c_J9_max v3 (w32 (v4 + 1))) fun v5 =>
  bnd (pf [106, 107, 108, 109, 110, 118, 119, 120, 121, 122, 123, 124, 125, 126] 1 l0 v5) fun _ =>
  pr 0
theorem sc_X4_has (g : gC) (d : Nat) (ts : TS) (l0 : Int) (l1 : Int) : SF g yX4_has (Cond.code yX4_has cX4_has 2 (Option.none : Option Jvm.ClassFile.FieldType)) (Option.none : Option Jvm.ClassFile.FieldType) (d + 1) [vA g l0, vA g l1] (fun h => (h, ts)) (c_X4_has l0 l1) := by
  refine SF.of (lv := [(0, vA g l0), (1, vA g l1)]) (by decide) (wt_A (wt_A wt_0)) rfl (by simp only [la_A, la_I, la_J, la_0]) (fun Γ hg hnm o => ?_)
  subst hg
  have o : Ok Γ "LazyForge$Part" cX4_has 2 (Option.none : Option Jvm.ClassFile.FieldType) (d + 1) := o
  unfold c_X4_has
  refine s_aload_n o dX4_has_0 rfl 0 rfl ?_
  refine s_dup o dX4_has_1 (vA_cat (mg Γ) l0) ?_
  refine r_getf vI rfl o cf_X4_parts (Or.inl (lw_all_tbl q255)) dX4_has_2 (fun v1 hv1 => ?_)
  refine s_aload_n o dX4_has_5 rfl 1 rfl ?_
  refine r_getf vI rfl o cf_X4_parts (Or.inl (lw_all_tbl q255)) dX4_has_6 (fun v2 hv2 => ?_)
  refine s_iadd o dX4_has_9 ?_
  refine r_putf vI rfl o cf_X4_parts (Or.inl (lw_all_tbl q255)) dX4_has_10 (Or.inl rfl) (w32_R _) ty_int ?_
  refine s_aload_n o dX4_has_13 rfl 0 rfl ?_
  refine s_aload_n o dX4_has_14 rfl 0 rfl ?_
  refine r_getf vI rfl o cf_X4_high (Or.inl (lw_all_tbl q257)) dX4_has_15 (fun v3 hv3 => ?_)
  refine s_aload_n o dX4_has_18 rfl 1 rfl ?_
  refine r_getf vI rfl o cf_X4_high (Or.inl (lw_all_tbl q257)) dX4_has_19 (fun v4 hv4 => ?_)
  refine s_iconst o dX4_has_22 ?_
  refine s_iadd o dX4_has_23 ?_
  refine s_cs (d := d + 0) (As := [vI v3, vI (w32 (v4 + 1))]) (st := [vA (mg Γ) l0]) o (sc_J9_max (mg Γ) d ts v3 (w32 (v4 + 1)) hv3 (w32_R _)) mw_J9_max rfl (Or.inl (lw_all_tbl q1334)) (lw_all_tbl q790) (wt_A wt_0) rfl dX4_has_24 rfl (rs := fun r => [vI r, vA (mg Γ) l0]) (fun _ => rfl) (fun v5 hv5 => ?_)
  refine r_putf vI rfl o cf_X4_high (Or.inl (lw_all_tbl q257)) dX4_has_27 (Or.inl rfl) (hv5 _ rfl) ty_int ?_
  exact s_vret o rfl dX4_has_30 (fun _ hh => hh)
theorem dX1_atom_0 : decode cX1_atom 0 = .ok (.ldc2_w 21, 3) := by decide +kernel
theorem dX1_atom_3 : decode cX1_atom 3 = .ok (.iload_n 0, 1) := by decide +kernel
theorem dX1_atom_4 : decode cX1_atom 4 = .ok (.i2l, 1) := by decide +kernel
theorem dX1_atom_5 : decode cX1_atom 5 = .ok (.lor, 1) := by decide +kernel
theorem dX1_atom_6 : decode cX1_atom 6 = .ok (.lreturn, 1) := by decide +kernel
theorem mw_X1_atom : MW yX1_atom (Cond.code yX1_atom cX1_atom 1 (Option.some Jvm.ClassFile.FieldType.long)) cX1_atom 1 (Option.some Jvm.ClassFile.FieldType.long) 1 := ⟨rfl, ⟨(lw_all_tbl q1544), rfl, (lw_all_tbl q163)⟩, rfl, ⟨by decide, by decide⟩, by decide +kernel⟩
noncomputable def c_X1_atom (l0 : Int) : Mo CH Int :=
  pr (lor 4294967296 l0)
theorem sc_X1_atom (g : gC) (d : Nat) (ts : TS) (l0 : Int) (hl0 : R32 l0) : SF g yX1_atom (Cond.code yX1_atom cX1_atom 1 (Option.some Jvm.ClassFile.FieldType.long)) (Option.some Jvm.ClassFile.FieldType.long) (d + 0) [vI l0] (fun h => (h, ts)) (c_X1_atom l0) := by
  refine SF.of (lv := [(0, vI l0)]) (by decide) (wt_I wt_0) rfl (by simp only [la_A, la_I, la_J, la_0]) (fun Γ hg hnm o => ?_)
  subst hg
  have o : Ok Γ "LazyForge" cX1_atom 1 (Option.some Jvm.ClassFile.FieldType.long) (d + 0) := o
  unfold c_X1_atom
  refine s_ldc2 (n := 4294967296) o dX1_atom_0 (lw_all_tbl q1545) rfl ?_
  refine s_iload_n o dX1_atom_3 rfl 0 rfl ?_
  refine s_i2l o dX1_atom_4 hl0 ?_
  refine s_lor o dX1_atom_5 ?_
  exact s_lret o rfl (lor_R _ _) dX1_atom_6 (fun _ hh => hh)
theorem dX1_of_0 : decode cX1_of 0 = .ok (.iload_n 0, 1) := by decide +kernel
theorem dX1_of_1 : decode cX1_of 1 = .ok (.i2l, 1) := by decide +kernel
theorem dX1_of_2 : decode cX1_of 2 = .ok (.ldc2_w 17, 3) := by decide +kernel
theorem dX1_of_5 : decode cX1_of 5 = .ok (.land, 1) := by decide +kernel
theorem dX1_of_6 : decode cX1_of 6 = .ok (.lreturn, 1) := by decide +kernel
theorem mw_X1_of : MW yX1_of (Cond.code yX1_of cX1_of 1 (Option.some Jvm.ClassFile.FieldType.long)) cX1_of 1 (Option.some Jvm.ClassFile.FieldType.long) 1 := ⟨rfl, ⟨(lw_all_tbl q1590), rfl, (lw_all_tbl q163)⟩, rfl, ⟨by decide, by decide⟩, by decide +kernel⟩
noncomputable def c_X1_of (l0 : Int) : Mo CH Int :=
  pr (land l0 4294967295)
theorem sc_X1_of (g : gC) (d : Nat) (ts : TS) (l0 : Int) (hl0 : R32 l0) : SF g yX1_of (Cond.code yX1_of cX1_of 1 (Option.some Jvm.ClassFile.FieldType.long)) (Option.some Jvm.ClassFile.FieldType.long) (d + 0) [vI l0] (fun h => (h, ts)) (c_X1_of l0) := by
  refine SF.of (lv := [(0, vI l0)]) (by decide) (wt_I wt_0) rfl (by simp only [la_A, la_I, la_J, la_0]) (fun Γ hg hnm o => ?_)
  subst hg
  have o : Ok Γ "LazyForge" cX1_of 1 (Option.some Jvm.ClassFile.FieldType.long) (d + 0) := o
  unfold c_X1_of
  refine s_iload_n o dX1_of_0 rfl 0 rfl ?_
  refine s_i2l o dX1_of_1 hl0 ?_
  refine s_ldc2 (n := 4294967295) o dX1_of_2 (lw_all_tbl q1591) rfl ?_
  refine s_land o dX1_of_5 ?_
  exact s_lret o rfl (land_R _ _) dX1_of_6 (fun _ hh => hh)
theorem dX3_reckoned_0 : decode cX3_reckoned 0 = .ok (.iload_n 0, 1) := by decide +kernel
theorem dX3_reckoned_1 : decode cX3_reckoned 1 = .ok (.tableswitch 125 0 6 #[43, 50, 57, 64, 81, 97, 111], 43) := by decide +kernel
theorem dX3_reckoned_44 : decode cX3_reckoned 44 = .ok (.iload_n 1, 1) := by decide +kernel
theorem dX3_reckoned_45 : decode cX3_reckoned 45 = .ok (.iload_n 2, 1) := by decide +kernel
theorem dX3_reckoned_46 : decode cX3_reckoned 46 = .ok (.iadd, 1) := by decide +kernel
theorem dX3_reckoned_47 : decode cX3_reckoned 47 = .ok (.invokestatic 262, 3) := by decide +kernel
theorem dX3_reckoned_50 : decode cX3_reckoned 50 = .ok (.lreturn, 1) := by decide +kernel
theorem dX3_reckoned_51 : decode cX3_reckoned 51 = .ok (.iload_n 1, 1) := by decide +kernel
theorem dX3_reckoned_52 : decode cX3_reckoned 52 = .ok (.iload_n 2, 1) := by decide +kernel
theorem dX3_reckoned_53 : decode cX3_reckoned 53 = .ok (.isub, 1) := by decide +kernel
theorem dX3_reckoned_54 : decode cX3_reckoned 54 = .ok (.invokestatic 262, 3) := by decide +kernel
theorem dX3_reckoned_57 : decode cX3_reckoned 57 = .ok (.lreturn, 1) := by decide +kernel
theorem dX3_reckoned_58 : decode cX3_reckoned 58 = .ok (.iload_n 1, 1) := by decide +kernel
theorem dX3_reckoned_59 : decode cX3_reckoned 59 = .ok (.iload_n 2, 1) := by decide +kernel
theorem dX3_reckoned_60 : decode cX3_reckoned 60 = .ok (.imul, 1) := by decide +kernel
theorem dX3_reckoned_61 : decode cX3_reckoned 61 = .ok (.invokestatic 262, 3) := by decide +kernel
theorem dX3_reckoned_64 : decode cX3_reckoned 64 = .ok (.lreturn, 1) := by decide +kernel
theorem dX3_reckoned_65 : decode cX3_reckoned 65 = .ok (.iload_n 2, 1) := by decide +kernel
theorem dX3_reckoned_66 : decode cX3_reckoned 66 = .ok (.iconst (-1), 1) := by decide +kernel
theorem dX3_reckoned_67 : decode cX3_reckoned 67 = .ok (.if_icmp .ne 8, 3) := by decide +kernel
theorem dX3_reckoned_70 : decode cX3_reckoned 70 = .ok (.iload_n 1, 1) := by decide +kernel
theorem dX3_reckoned_71 : decode cX3_reckoned 71 = .ok (.ineg, 1) := by decide +kernel
theorem dX3_reckoned_72 : decode cX3_reckoned 72 = .ok (.goto 6, 3) := by decide +kernel
theorem dX3_reckoned_75 : decode cX3_reckoned 75 = .ok (.iload_n 1, 1) := by decide +kernel
theorem dX3_reckoned_76 : decode cX3_reckoned 76 = .ok (.iload_n 2, 1) := by decide +kernel
theorem dX3_reckoned_77 : decode cX3_reckoned 77 = .ok (.idiv, 1) := by decide +kernel
theorem dX3_reckoned_78 : decode cX3_reckoned 78 = .ok (.invokestatic 262, 3) := by decide +kernel
theorem dX3_reckoned_81 : decode cX3_reckoned 81 = .ok (.lreturn, 1) := by decide +kernel
theorem dX3_reckoned_82 : decode cX3_reckoned 82 = .ok (.iload_n 2, 1) := by decide +kernel
theorem dX3_reckoned_83 : decode cX3_reckoned 83 = .ok (.iconst (-1), 1) := by decide +kernel
theorem dX3_reckoned_84 : decode cX3_reckoned 84 = .ok (.if_icmp .ne 7, 3) := by decide +kernel
theorem dX3_reckoned_87 : decode cX3_reckoned 87 = .ok (.iconst 0, 1) := by decide +kernel
theorem dX3_reckoned_88 : decode cX3_reckoned 88 = .ok (.goto 6, 3) := by decide +kernel
theorem dX3_reckoned_91 : decode cX3_reckoned 91 = .ok (.iload_n 1, 1) := by decide +kernel
theorem dX3_reckoned_92 : decode cX3_reckoned 92 = .ok (.iload_n 2, 1) := by decide +kernel
theorem dX3_reckoned_93 : decode cX3_reckoned 93 = .ok (.irem, 1) := by decide +kernel
theorem dX3_reckoned_94 : decode cX3_reckoned 94 = .ok (.invokestatic 262, 3) := by decide +kernel
theorem dX3_reckoned_97 : decode cX3_reckoned 97 = .ok (.lreturn, 1) := by decide +kernel
theorem dX3_reckoned_98 : decode cX3_reckoned 98 = .ok (.iload_n 1, 1) := by decide +kernel
theorem dX3_reckoned_99 : decode cX3_reckoned 99 = .ok (.iload_n 2, 1) := by decide +kernel
theorem dX3_reckoned_100 : decode cX3_reckoned 100 = .ok (.if_icmp .ne 7, 3) := by decide +kernel
theorem dX3_reckoned_103 : decode cX3_reckoned 103 = .ok (.iconst 1, 1) := by decide +kernel
theorem dX3_reckoned_104 : decode cX3_reckoned 104 = .ok (.goto 4, 3) := by decide +kernel
theorem dX3_reckoned_107 : decode cX3_reckoned 107 = .ok (.iconst 0, 1) := by decide +kernel
theorem dX3_reckoned_108 : decode cX3_reckoned 108 = .ok (.invokestatic 265, 3) := by decide +kernel
theorem dX3_reckoned_111 : decode cX3_reckoned 111 = .ok (.lreturn, 1) := by decide +kernel
theorem dX3_reckoned_112 : decode cX3_reckoned 112 = .ok (.iload_n 1, 1) := by decide +kernel
theorem dX3_reckoned_113 : decode cX3_reckoned 113 = .ok (.iload_n 2, 1) := by decide +kernel
theorem dX3_reckoned_114 : decode cX3_reckoned 114 = .ok (.if_icmp .ge 7, 3) := by decide +kernel
theorem dX3_reckoned_117 : decode cX3_reckoned 117 = .ok (.iconst 1, 1) := by decide +kernel
theorem dX3_reckoned_118 : decode cX3_reckoned 118 = .ok (.goto 4, 3) := by decide +kernel
theorem dX3_reckoned_121 : decode cX3_reckoned 121 = .ok (.iconst 0, 1) := by decide +kernel
theorem dX3_reckoned_122 : decode cX3_reckoned 122 = .ok (.invokestatic 265, 3) := by decide +kernel
theorem dX3_reckoned_125 : decode cX3_reckoned 125 = .ok (.lreturn, 1) := by decide +kernel
theorem dX3_reckoned_126 : decode cX3_reckoned 126 = .ok (.iload_n 1, 1) := by decide +kernel
theorem dX3_reckoned_127 : decode cX3_reckoned 127 = .ok (.iload_n 2, 1) := by decide +kernel
theorem dX3_reckoned_128 : decode cX3_reckoned 128 = .ok (.if_icmp .gt 7, 3) := by decide +kernel
theorem dX3_reckoned_131 : decode cX3_reckoned 131 = .ok (.iconst 1, 1) := by decide +kernel
theorem dX3_reckoned_132 : decode cX3_reckoned 132 = .ok (.goto 4, 3) := by decide +kernel
theorem dX3_reckoned_135 : decode cX3_reckoned 135 = .ok (.iconst 0, 1) := by decide +kernel
theorem dX3_reckoned_136 : decode cX3_reckoned 136 = .ok (.invokestatic 265, 3) := by decide +kernel
theorem dX3_reckoned_139 : decode cX3_reckoned 139 = .ok (.lreturn, 1) := by decide +kernel
theorem mw_X3_reckoned : MW yX3_reckoned (Cond.code yX3_reckoned cX3_reckoned 3 (Option.some Jvm.ClassFile.FieldType.long)) cX3_reckoned 3 (Option.some Jvm.ClassFile.FieldType.long) 3 := ⟨rfl, ⟨(lw_all_tbl q2450), rfl, (lw_all_tbl q165)⟩, rfl, ⟨by decide, by decide⟩, by decide +kernel⟩
noncomputable def c_X3_reckoned_78  (k0 : Int) : Mo CH Int :=
  bnd (c_X1_of k0) fun v1 =>
  pr v1
theorem sc_X3_reckoned_78 {Γ : Gm} {ts : TS} {d : Nat} (o : Ok Γ "LazyForge$Machine" cX3_reckoned 3 (Option.some Jvm.ClassFile.FieldType.long) (d + 1))   (k0 : Int) (hk0 : R32 k0) : Sx Γ (fun h => (h, ts)) (fun a s => mt Γ = (0, a, ((s, ts) : Wd))) 78 [] [vI k0] (c_X3_reckoned_78 k0) := by
  unfold c_X3_reckoned_78
  refine s_cs (d := d + 0) (As := [vI k0]) (st := []) o (sc_X1_of (mg Γ) d ts k0 hk0) mw_X1_of rfl (Or.inr ⟨_, q2451⟩) (lw_all_tbl q1589) wt_0 rfl dX3_reckoned_78 rfl (rs := fun r => [vJ r]) (fun _ => rfl) (fun v1 hv1 => ?_)
  exact s_lret o rfl (hv1 _ rfl) dX3_reckoned_81 (fun _ hh => hh)
noncomputable def c_X3_reckoned_94  (k0 : Int) : Mo CH Int :=
  bnd (c_X1_of k0) fun v1 =>
  pr v1
theorem sc_X3_reckoned_94 {Γ : Gm} {ts : TS} {d : Nat} (o : Ok Γ "LazyForge$Machine" cX3_reckoned 3 (Option.some Jvm.ClassFile.FieldType.long) (d + 1))   (k0 : Int) (hk0 : R32 k0) : Sx Γ (fun h => (h, ts)) (fun a s => mt Γ = (0, a, ((s, ts) : Wd))) 94 [] [vI k0] (c_X3_reckoned_94 k0) := by
  unfold c_X3_reckoned_94
  refine s_cs (d := d + 0) (As := [vI k0]) (st := []) o (sc_X1_of (mg Γ) d ts k0 hk0) mw_X1_of rfl (Or.inr ⟨_, q2451⟩) (lw_all_tbl q1589) wt_0 rfl dX3_reckoned_94 rfl (rs := fun r => [vJ r]) (fun _ => rfl) (fun v1 hv1 => ?_)
  exact s_lret o rfl (hv1 _ rfl) dX3_reckoned_97 (fun _ hh => hh)
noncomputable def c_X3_reckoned_108  (k0 : Int) : Mo CH Int :=
  bnd (c_X1_atom k0) fun v1 =>
  pr v1
theorem sc_X3_reckoned_108 {Γ : Gm} {ts : TS} {d : Nat} (o : Ok Γ "LazyForge$Machine" cX3_reckoned 3 (Option.some Jvm.ClassFile.FieldType.long) (d + 1))   (k0 : Int) (hk0 : rg .boolean k0) : Sx Γ (fun h => (h, ts)) (fun a s => mt Γ = (0, a, ((s, ts) : Wd))) 108 [] [vI k0] (c_X3_reckoned_108 k0) := by
  unfold c_X3_reckoned_108
  refine s_cs (d := d + 0) (As := [vI k0]) (st := []) o (sc_X1_atom (mg Γ) d ts k0 (rZ hk0)) mw_X1_atom rfl (Or.inr ⟨_, q2452⟩) (lw_all_tbl q1543) wt_0 rfl dX3_reckoned_108 rfl (rs := fun r => [vJ r]) (fun _ => rfl) (fun v1 hv1 => ?_)
  exact s_lret o rfl (hv1 _ rfl) dX3_reckoned_111 (fun _ hh => hh)
noncomputable def c_X3_reckoned_122  (k0 : Int) : Mo CH Int :=
  bnd (c_X1_atom k0) fun v1 =>
  pr v1
theorem sc_X3_reckoned_122 {Γ : Gm} {ts : TS} {d : Nat} (o : Ok Γ "LazyForge$Machine" cX3_reckoned 3 (Option.some Jvm.ClassFile.FieldType.long) (d + 1))   (k0 : Int) (hk0 : rg .boolean k0) : Sx Γ (fun h => (h, ts)) (fun a s => mt Γ = (0, a, ((s, ts) : Wd))) 122 [] [vI k0] (c_X3_reckoned_122 k0) := by
  unfold c_X3_reckoned_122
  refine s_cs (d := d + 0) (As := [vI k0]) (st := []) o (sc_X1_atom (mg Γ) d ts k0 (rZ hk0)) mw_X1_atom rfl (Or.inr ⟨_, q2452⟩) (lw_all_tbl q1543) wt_0 rfl dX3_reckoned_122 rfl (rs := fun r => [vJ r]) (fun _ => rfl) (fun v1 hv1 => ?_)
  exact s_lret o rfl (hv1 _ rfl) dX3_reckoned_125 (fun _ hh => hh)
noncomputable def c_X3_reckoned_136  (k0 : Int) : Mo CH Int :=
  bnd (c_X1_atom k0) fun v1 =>
  pr v1
theorem sc_X3_reckoned_136 {Γ : Gm} {ts : TS} {d : Nat} (o : Ok Γ "LazyForge$Machine" cX3_reckoned 3 (Option.some Jvm.ClassFile.FieldType.long) (d + 1))   (k0 : Int) (hk0 : rg .boolean k0) : Sx Γ (fun h => (h, ts)) (fun a s => mt Γ = (0, a, ((s, ts) : Wd))) 136 [] [vI k0] (c_X3_reckoned_136 k0) := by
  unfold c_X3_reckoned_136
  refine s_cs (d := d + 0) (As := [vI k0]) (st := []) o (sc_X1_atom (mg Γ) d ts k0 (rZ hk0)) mw_X1_atom rfl (Or.inr ⟨_, q2452⟩) (lw_all_tbl q1543) wt_0 rfl dX3_reckoned_136 rfl (rs := fun r => [vJ r]) (fun _ => rfl) (fun v1 hv1 => ?_)
  exact s_lret o rfl (hv1 _ rfl) dX3_reckoned_139 (fun _ hh => hh)
noncomputable def c_X3_reckoned (l0 : Int) (l1 : Int) (l2 : Int) : Mo CH Int :=
  if l0 = 0 then
    bnd (c_X1_of (w32 (l1 + l2))) fun v2 =>
    pr v2
  else
    if l0 = 1 then
      bnd (c_X1_of (w32 (l1 - l2))) fun v4 =>
      pr v4
    else
      if l0 = 2 then
        bnd (c_X1_of (w32 (l1 * l2))) fun v6 =>
        pr v6
      else
        if l0 = 3 then
          if ¬ l2 = (-1) then
            nz l2
            (c_X3_reckoned_78 (idv l1 l2))
          else
            c_X3_reckoned_78 (w32 (-l1))
        else
          if l0 = 4 then
            if ¬ l2 = (-1) then
              nz l2
              (c_X3_reckoned_94 (irm l1 l2))
            else
              c_X3_reckoned_94 0
          else
            if l0 = 5 then
              if ¬ l1 = l2 then
                c_X3_reckoned_108 0
              else
                c_X3_reckoned_108 1
            else
              if l0 = 6 then
                if l2 ≤ l1 then
                  c_X3_reckoned_122 0
                else
                  c_X3_reckoned_122 1
              else
                if l2 < l1 then
                  c_X3_reckoned_136 0
                else
                  c_X3_reckoned_136 1
theorem sc_X3_reckoned (g : gC) (d : Nat) (ts : TS) (l0 : Int) (l1 : Int) (l2 : Int) (hl0 : R32 l0) (hl1 : R32 l1) (hl2 : R32 l2) : SF g yX3_reckoned (Cond.code yX3_reckoned cX3_reckoned 3 (Option.some Jvm.ClassFile.FieldType.long)) (Option.some Jvm.ClassFile.FieldType.long) (d + 1) [vI l0, vI l1, vI l2] (fun h => (h, ts)) (c_X3_reckoned l0 l1 l2) := by
  refine SF.of (lv := [(0, vI l0), (1, vI l1), (2, vI l2)]) (by decide) (wt_I (wt_I (wt_I wt_0))) rfl (by simp only [la_A, la_I, la_J, la_0]) (fun Γ hg hnm o => ?_)
  subst hg
  have o : Ok Γ "LazyForge$Machine" cX3_reckoned 3 (Option.some Jvm.ClassFile.FieldType.long) (d + 1) := o
  unfold c_X3_reckoned
  refine s_iload_n o dX3_reckoned_0 rfl 0 rfl ?_
  refine s_case (P := True) (fun e0 => ?_) (fun e0 => ?_)
  · refine s_tabE o e0 dX3_reckoned_1 (r32 rfl) rfl rfl (tgt := 44) (by decide) ?_
    refine s_iload_n o dX3_reckoned_44 rfl 1 rfl ?_
    refine s_iload_n o dX3_reckoned_45 rfl 2 rfl ?_
    refine s_iadd o dX3_reckoned_46 ?_
    refine s_cs (d := d + 0) (As := [vI (w32 (l1 + l2))]) (st := []) o (sc_X1_of (mg Γ) d ts (w32 (l1 + l2)) (w32_R _)) mw_X1_of rfl (Or.inr ⟨_, q2451⟩) (lw_all_tbl q1589) wt_0 rfl dX3_reckoned_47 rfl (rs := fun r => [vJ r]) (fun _ => rfl) (fun v2 hv2 => ?_)
    exact s_lret o rfl (hv2 _ rfl) dX3_reckoned_50 (fun _ hh => hh)
  · refine s_case (P := True) (fun e2 => ?_) (fun e2 => ?_)
    · refine s_tabE o e2 dX3_reckoned_1 (r32 rfl) rfl rfl (tgt := 51) (by decide) ?_
      refine s_iload_n o dX3_reckoned_51 rfl 1 rfl ?_
      refine s_iload_n o dX3_reckoned_52 rfl 2 rfl ?_
      refine s_isub o dX3_reckoned_53 ?_
      refine s_cs (d := d + 0) (As := [vI (w32 (l1 - l2))]) (st := []) o (sc_X1_of (mg Γ) d ts (w32 (l1 - l2)) (w32_R _)) mw_X1_of rfl (Or.inr ⟨_, q2451⟩) (lw_all_tbl q1589) wt_0 rfl dX3_reckoned_54 rfl (rs := fun r => [vJ r]) (fun _ => rfl) (fun v4 hv4 => ?_)
      exact s_lret o rfl (hv4 _ rfl) dX3_reckoned_57 (fun _ hh => hh)
    · refine s_case (P := True) (fun e4 => ?_) (fun e4 => ?_)
      · refine s_tabE o e4 dX3_reckoned_1 (r32 rfl) rfl rfl (tgt := 58) (by decide) ?_
        refine s_iload_n o dX3_reckoned_58 rfl 1 rfl ?_
        refine s_iload_n o dX3_reckoned_59 rfl 2 rfl ?_
        refine s_imul o dX3_reckoned_60 ?_
        refine s_cs (d := d + 0) (As := [vI (w32 (l1 * l2))]) (st := []) o (sc_X1_of (mg Γ) d ts (w32 (l1 * l2)) (w32_R _)) mw_X1_of rfl (Or.inr ⟨_, q2451⟩) (lw_all_tbl q1589) wt_0 rfl dX3_reckoned_61 rfl (rs := fun r => [vJ r]) (fun _ => rfl) (fun v6 hv6 => ?_)
        exact s_lret o rfl (hv6 _ rfl) dX3_reckoned_64 (fun _ hh => hh)
      · refine s_case (P := True) (fun e6 => ?_) (fun e6 => ?_)
        · refine s_tabE o e6 dX3_reckoned_1 (r32 rfl) rfl rfl (tgt := 65) (by decide) ?_
          refine s_iload_n o dX3_reckoned_65 rfl 2 rfl ?_
          refine s_iconst o dX3_reckoned_66 ?_
          refine s_icmp_ne (tgt := 75) o dX3_reckoned_67 (by decide) hl2 (r32 rfl) ?_ ?_
          · refine s_iload_n o dX3_reckoned_75 rfl 1 rfl ?_
            refine s_iload_n o dX3_reckoned_76 rfl 2 rfl ?_
            refine s_nz (fun z7 => ?_)
            refine s_idiv o dX3_reckoned_77 hl2 z7 ?_
            refine r_to [] [] rfl ?_
            exact sc_X3_reckoned_78 o (idv l1 l2) (idv_R _ _)
          · refine s_iload_n o dX3_reckoned_70 rfl 1 rfl ?_
            refine s_ineg o dX3_reckoned_71 ?_
            refine s_goto (tgt := 78) o dX3_reckoned_72 (by decide) ?_
            refine r_to [] [] rfl ?_
            exact sc_X3_reckoned_78 o (w32 (-l1)) (w32_R _)
        · refine s_case (P := True) (fun e8 => ?_) (fun e8 => ?_)
          · refine s_tabE o e8 dX3_reckoned_1 (r32 rfl) rfl rfl (tgt := 82) (by decide) ?_
            refine s_iload_n o dX3_reckoned_82 rfl 2 rfl ?_
            refine s_iconst o dX3_reckoned_83 ?_
            refine s_icmp_ne (tgt := 91) o dX3_reckoned_84 (by decide) hl2 (r32 rfl) ?_ ?_
            · refine s_iload_n o dX3_reckoned_91 rfl 1 rfl ?_
              refine s_iload_n o dX3_reckoned_92 rfl 2 rfl ?_
              refine s_nz (fun z9 => ?_)
              refine s_irem o dX3_reckoned_93 hl2 z9 ?_
              refine r_to [] [] rfl ?_
              exact sc_X3_reckoned_94 o (irm l1 l2) (irm_R _ _)
            · refine s_iconst o dX3_reckoned_87 ?_
              refine s_goto (tgt := 94) o dX3_reckoned_88 (by decide) ?_
              refine r_to [] [] rfl ?_
              exact sc_X3_reckoned_94 o 0 (r32 rfl)
          · refine s_case (P := True) (fun e10 => ?_) (fun e10 => ?_)
            · refine s_tabE o e10 dX3_reckoned_1 (r32 rfl) rfl rfl (tgt := 98) (by decide) ?_
              refine s_iload_n o dX3_reckoned_98 rfl 1 rfl ?_
              refine s_iload_n o dX3_reckoned_99 rfl 2 rfl ?_
              refine s_icmp_ne (tgt := 107) o dX3_reckoned_100 (by decide) hl1 hl2 ?_ ?_
              · refine s_iconst o dX3_reckoned_107 ?_
                refine r_to [] [] rfl ?_
                exact sc_X3_reckoned_108 o 0 (Or.inl rfl)
              · refine s_iconst o dX3_reckoned_103 ?_
                refine s_goto (tgt := 108) o dX3_reckoned_104 (by decide) ?_
                refine r_to [] [] rfl ?_
                exact sc_X3_reckoned_108 o 1 (Or.inr rfl)
            · refine s_case (P := True) (fun e11 => ?_) (fun e11 => ?_)
              · refine s_tabE o e11 dX3_reckoned_1 (r32 rfl) rfl rfl (tgt := 112) (by decide) ?_
                refine s_iload_n o dX3_reckoned_112 rfl 1 rfl ?_
                refine s_iload_n o dX3_reckoned_113 rfl 2 rfl ?_
                refine s_icmp_ge (tgt := 121) o dX3_reckoned_114 (by decide) hl1 hl2 ?_ ?_
                · refine s_iconst o dX3_reckoned_121 ?_
                  refine r_to [] [] rfl ?_
                  exact sc_X3_reckoned_122 o 0 (Or.inl rfl)
                · refine s_iconst o dX3_reckoned_117 ?_
                  refine s_goto (tgt := 122) o dX3_reckoned_118 (by decide) ?_
                  refine r_to [] [] rfl ?_
                  exact sc_X3_reckoned_122 o 1 (Or.inr rfl)
              · refine s_tabOut o dX3_reckoned_1 hl0 (by omega) (tgt := 126) (by decide) ?_
                refine s_iload_n o dX3_reckoned_126 rfl 1 rfl ?_
                refine s_iload_n o dX3_reckoned_127 rfl 2 rfl ?_
                refine s_icmp_gt (tgt := 135) o dX3_reckoned_128 (by decide) hl1 hl2 ?_ ?_
                · refine s_iconst o dX3_reckoned_135 ?_
                  refine r_to [] [] rfl ?_
                  exact sc_X3_reckoned_136 o 0 (Or.inl rfl)
                · refine s_iconst o dX3_reckoned_131 ?_
                  refine s_goto (tgt := 136) o dX3_reckoned_132 (by decide) ?_
                  refine r_to [] [] rfl ?_
                  exact sc_X3_reckoned_136 o 1 (Or.inr rfl)
theorem dX1_isInt_0 : decode cX1_isInt 0 = .ok (.lload_n 0, 1) := by decide +kernel
theorem dX1_isInt_1 : decode cX1_isInt 1 = .ok (.bipush 32, 2) := by decide +kernel
theorem dX1_isInt_3 : decode cX1_isInt 3 = .ok (.lshr, 1) := by decide +kernel
theorem dX1_isInt_4 : decode cX1_isInt 4 = .ok (.lconst 0, 1) := by decide +kernel
theorem dX1_isInt_5 : decode cX1_isInt 5 = .ok (.lcmp, 1) := by decide +kernel
theorem dX1_isInt_6 : decode cX1_isInt 6 = .ok (.ifCond .ne 7, 3) := by decide +kernel
theorem dX1_isInt_9 : decode cX1_isInt 9 = .ok (.iconst 1, 1) := by decide +kernel
theorem dX1_isInt_10 : decode cX1_isInt 10 = .ok (.goto 4, 3) := by decide +kernel
theorem dX1_isInt_13 : decode cX1_isInt 13 = .ok (.iconst 0, 1) := by decide +kernel
theorem dX1_isInt_14 : decode cX1_isInt 14 = .ok (.ireturn, 1) := by decide +kernel
theorem mw_X1_isInt : MW yX1_isInt (Cond.code yX1_isInt cX1_isInt 2 (Option.some Jvm.ClassFile.FieldType.boolean)) cX1_isInt 2 (Option.some Jvm.ClassFile.FieldType.boolean) 1 := ⟨rfl, ⟨(lw_all_tbl q2008), rfl, (lw_all_tbl q163)⟩, rfl, ⟨by decide, by decide⟩, by decide +kernel⟩
noncomputable def c_X1_isInt (l0 : Int) : Mo CH Int :=
  if ¬ (lshr l0 32) = 0 then
    pr 0
  else
    pr 1
theorem sc_X1_isInt (g : gC) (d : Nat) (ts : TS) (l0 : Int) (hl0 : R64 l0) : SF g yX1_isInt (Cond.code yX1_isInt cX1_isInt 2 (Option.some Jvm.ClassFile.FieldType.boolean)) (Option.some Jvm.ClassFile.FieldType.boolean) (d + 0) [vJ l0] (fun h => (h, ts)) (c_X1_isInt l0) := by
  refine SF.of (lv := [(0, vJ l0)]) (by decide) (wt_J wt_0) rfl (by simp only [la_A, la_I, la_J, la_0]) (fun Γ hg hnm o => ?_)
  subst hg
  have o : Ok Γ "LazyForge" cX1_isInt 2 (Option.some Jvm.ClassFile.FieldType.boolean) (d + 0) := o
  unfold c_X1_isInt
  refine s_lload_n o dX1_isInt_0 rfl 0 rfl ?_
  refine s_bipush o dX1_isInt_1 rfl ?_
  refine s_lshr o dX1_isInt_3 ?_
  refine s_lconst (x := 0) o dX1_isInt_4 rfl ?_
  refine s_lcmp_ne (tgt := 13) o dX1_isInt_5 dX1_isInt_6 (by decide) (lshr_R _ _) (r64 rfl) ?_ ?_
  · refine s_iconst o dX1_isInt_13 ?_
    exact s_iret o rfl i_boolean (Or.inl rfl) dX1_isInt_14 (fun _ hh => hh)
  · refine s_iconst o dX1_isInt_9 ?_
    refine s_goto (tgt := 14) o dX1_isInt_10 (by decide) ?_
    exact s_iret o rfl i_boolean (Or.inr rfl) dX1_isInt_14 (fun _ hh => hh)
theorem dX3_reckon_0 : decode cX3_reckon 0 = .ok (.aload_n 0, 1) := by decide +kernel
theorem dX3_reckon_1 : decode cX3_reckon 1 = .ok (.invokevirtual 237, 3) := by decide +kernel
theorem dX3_reckon_4 : decode cX3_reckon 4 = .ok (.lstore_n 2, 1) := by decide +kernel
theorem dX3_reckon_5 : decode cX3_reckon 5 = .ok (.aload_n 0, 1) := by decide +kernel
theorem dX3_reckon_6 : decode cX3_reckon 6 = .ok (.invokevirtual 237, 3) := by decide +kernel
theorem dX3_reckon_9 : decode cX3_reckon 9 = .ok (.lstore 4, 2) := by decide +kernel
theorem dX3_reckon_11 : decode cX3_reckon 11 = .ok (.lload 4, 2) := by decide +kernel
theorem dX3_reckon_13 : decode cX3_reckon 13 = .ok (.invokestatic 254, 3) := by decide +kernel
theorem dX3_reckon_16 : decode cX3_reckon 16 = .ok (.ifCond .eq 10, 3) := by decide +kernel
theorem dX3_reckon_19 : decode cX3_reckon 19 = .ok (.lload_n 2, 1) := by decide +kernel
theorem dX3_reckon_20 : decode cX3_reckon 20 = .ok (.invokestatic 254, 3) := by decide +kernel
theorem dX3_reckon_23 : decode cX3_reckon 23 = .ok (.ifCond .ne 11, 3) := by decide +kernel
theorem dX3_reckon_26 : decode cX3_reckon 26 = .ok (.aload_n 0, 1) := by decide +kernel
theorem dX3_reckon_27 : decode cX3_reckon 27 = .ok (.iconst 4, 1) := by decide +kernel
theorem dX3_reckon_28 : decode cX3_reckon 28 = .ok (.invokevirtual 182, 3) := by decide +kernel
theorem dX3_reckon_31 : decode cX3_reckon 31 = .ok (.goto 40, 3) := by decide +kernel
theorem dX3_reckon_34 : decode cX3_reckon 34 = .ok (.iload_n 1, 1) := by decide +kernel
theorem dX3_reckon_35 : decode cX3_reckon 35 = .ok (.iconst 3, 1) := by decide +kernel
theorem dX3_reckon_36 : decode cX3_reckon 36 = .ok (.if_icmp .eq 8, 3) := by decide +kernel
theorem dX3_reckon_39 : decode cX3_reckon 39 = .ok (.iload_n 1, 1) := by decide +kernel
theorem dX3_reckon_40 : decode cX3_reckon 40 = .ok (.iconst 4, 1) := by decide +kernel
theorem dX3_reckon_41 : decode cX3_reckon 41 = .ok (.if_icmp .ne 17, 3) := by decide +kernel
theorem dX3_reckon_44 : decode cX3_reckon 44 = .ok (.lload_n 2, 1) := by decide +kernel
theorem dX3_reckon_45 : decode cX3_reckon 45 = .ok (.lconst 0, 1) := by decide +kernel
theorem dX3_reckon_46 : decode cX3_reckon 46 = .ok (.lcmp, 1) := by decide +kernel
theorem dX3_reckon_47 : decode cX3_reckon 47 = .ok (.ifCond .ne 11, 3) := by decide +kernel
theorem dX3_reckon_50 : decode cX3_reckon 50 = .ok (.aload_n 0, 1) := by decide +kernel
theorem dX3_reckon_51 : decode cX3_reckon 51 = .ok (.iconst 2, 1) := by decide +kernel
theorem dX3_reckon_52 : decode cX3_reckon 52 = .ok (.invokevirtual 182, 3) := by decide +kernel
theorem dX3_reckon_55 : decode cX3_reckon 55 = .ok (.goto 16, 3) := by decide +kernel
theorem dX3_reckon_58 : decode cX3_reckon 58 = .ok (.aload_n 0, 1) := by decide +kernel
theorem dX3_reckon_59 : decode cX3_reckon 59 = .ok (.iload_n 1, 1) := by decide +kernel
theorem dX3_reckon_60 : decode cX3_reckon 60 = .ok (.lload 4, 2) := by decide +kernel
theorem dX3_reckon_62 : decode cX3_reckon 62 = .ok (.l2i, 1) := by decide +kernel
theorem dX3_reckon_63 : decode cX3_reckon 63 = .ok (.lload_n 2, 1) := by decide +kernel
theorem dX3_reckon_64 : decode cX3_reckon 64 = .ok (.l2i, 1) := by decide +kernel
theorem dX3_reckon_65 : decode cX3_reckon 65 = .ok (.invokestatic 258, 3) := by decide +kernel
theorem dX3_reckon_68 : decode cX3_reckon 68 = .ok (.invokevirtual 162, 3) := by decide +kernel
theorem dX3_reckon_71 : decode cX3_reckon 71 = .ok (.return_, 1) := by decide +kernel
theorem mw_X3_reckon : MW yX3_reckon (Cond.code yX3_reckon cX3_reckon 6 (Option.none : Option Jvm.ClassFile.FieldType)) cX3_reckon 6 (Option.none : Option Jvm.ClassFile.FieldType) 1 := ⟨rfl, ⟨(lw_all_tbl q2447), rfl, (lw_all_tbl q165)⟩, rfl, ⟨by decide, by decide⟩, by decide +kernel⟩
noncomputable def c_X3_reckon_26  (l0 : Int) : Mo CH Int :=
  bnd (isk 103 l0) fun _ =>
  bnd (c_X3_fault l0 4) fun _ =>
  pr 0
theorem sc_X3_reckon_26 {Γ : Gm} {ts : TS} {d : Nat} (o : Ok Γ "LazyForge$Machine" cX3_reckon 6 (Option.none : Option Jvm.ClassFile.FieldType) (d + 3))   (l0 : Int) : Sx Γ (fun h => (h, ts)) (fun a s => mt Γ = (0, a, ((s, ts) : Wd))) 26 [(0, vA (mg Γ) l0)] [] (c_X3_reckon_26 l0) := by
  unfold c_X3_reckon_26
  refine s_aload_n o dX3_reckon_26 rfl 0 rfl ?_
  refine s_iconst o dX3_reckon_27 ?_
  refine s_cvC (d := d + 2) (As := [vI 4]) (st := []) (c := 3) o (sc_X3_fault (mg Γ) (d + 1) ts l0 4 (r32 rfl)) mw_X3_fault rfl (Or.inl (lw_all_tbl q2195)) rfl (lw_all_tbl q2197) (lw_all_tbl q2196) wt_0 rfl dX3_reckon_28 rfl (rs := fun _ => []) (fun _ => rfl) (fun _ _ => ?_)
  refine s_goto (tgt := 71) o dX3_reckon_31 (by decide) ?_
  exact s_vret o rfl dX3_reckon_71 (fun _ hh => hh)
noncomputable def c_X3_reckon_58  (l0 : Int) (l1 : Int) (l2 : Int) (l4 : Int) : Mo CH Int :=
  bnd (c_X3_reckoned l1 (l2i l4) (l2i l2)) fun v1 =>
  bnd (isk 103 l0) fun _ =>
  bnd (c_X3_give l0 v1) fun _ =>
  pr 0
theorem sc_X3_reckon_58 {Γ : Gm} {ts : TS} {d : Nat} (o : Ok Γ "LazyForge$Machine" cX3_reckon 6 (Option.none : Option Jvm.ClassFile.FieldType) (d + 3))   (l0 : Int) (l1 : Int) (l2 : Int) (l4 : Int) (hl1 : R32 l1) (hl2 : R64 l2) (hl4 : R64 l4) : Sx Γ (fun h => (h, ts)) (fun a s => mt Γ = (0, a, ((s, ts) : Wd))) 58 [(0, vA (mg Γ) l0), (1, vI l1), (2, vJ l2), (4, vJ l4)] [] (c_X3_reckon_58 l0 l1 l2 l4) := by
  unfold c_X3_reckon_58
  refine s_aload_n o dX3_reckon_58 rfl 0 rfl ?_
  refine s_iload_n o dX3_reckon_59 rfl 1 rfl ?_
  refine s_lload o dX3_reckon_60 3 rfl ?_
  refine s_l2i o dX3_reckon_62 ?_
  refine s_lload_n o dX3_reckon_63 rfl 2 rfl ?_
  refine s_l2i o dX3_reckon_64 ?_
  refine s_cs (d := d + 2) (As := [vI l1, vI (l2i l4), vI (l2i l2)]) (st := [vA (mg Γ) l0]) o (sc_X3_reckoned (mg Γ) (d + 1) ts l1 (l2i l4) (l2i l2) hl1 (l2i_R _) (l2i_R _)) mw_X3_reckoned rfl (Or.inl (lw_all_tbl q2448)) (lw_all_tbl q2449) (wt_A wt_0) rfl dX3_reckon_65 rfl (rs := fun r => [vJ r, vA (mg Γ) l0]) (fun _ => rfl) (fun v1 hv1 => ?_)
  refine s_cvC (d := d + 2) (As := [vJ v1]) (st := []) (c := 3) o (sc_X3_give (mg Γ) d ts l0 v1 (hv1 _ rfl)) mw_X3_give rfl (Or.inl (lw_all_tbl q2186)) rfl (lw_all_tbl q2188) (lw_all_tbl q2187) wt_0 rfl dX3_reckon_68 rfl (rs := fun _ => []) (fun _ => rfl) (fun _ _ => ?_)
  exact s_vret o rfl dX3_reckon_71 (fun _ hh => hh)
noncomputable def c_X3_reckon_44  (l0 : Int) (l1 : Int) (l2 : Int) (l4 : Int) : Mo CH Int :=
  if ¬ l2 = 0 then
    c_X3_reckon_58 l0 l1 l2 l4
  else
    bnd (isk 103 l0) fun _ =>
    bnd (c_X3_fault l0 2) fun _ =>
    pr 0
theorem sc_X3_reckon_44 {Γ : Gm} {ts : TS} {d : Nat} (o : Ok Γ "LazyForge$Machine" cX3_reckon 6 (Option.none : Option Jvm.ClassFile.FieldType) (d + 3))   (l0 : Int) (l1 : Int) (l2 : Int) (l4 : Int) (hl1 : R32 l1) (hl2 : R64 l2) (hl4 : R64 l4) : Sx Γ (fun h => (h, ts)) (fun a s => mt Γ = (0, a, ((s, ts) : Wd))) 44 [(0, vA (mg Γ) l0), (1, vI l1), (2, vJ l2), (4, vJ l4)] [] (c_X3_reckon_44 l0 l1 l2 l4) := by
  unfold c_X3_reckon_44
  refine s_lload_n o dX3_reckon_44 rfl 2 rfl ?_
  refine s_lconst (x := 0) o dX3_reckon_45 rfl ?_
  refine s_lcmp_ne (tgt := 58) o dX3_reckon_46 dX3_reckon_47 (by decide) hl2 (r64 rfl) ?_ ?_
  · exact sc_X3_reckon_58 o l0 l1 l2 l4 hl1 hl2 hl4
  · refine s_aload_n o dX3_reckon_50 rfl 0 rfl ?_
    refine s_iconst o dX3_reckon_51 ?_
    refine s_cvC (d := d + 2) (As := [vI 2]) (st := []) (c := 3) o (sc_X3_fault (mg Γ) (d + 1) ts l0 2 (r32 rfl)) mw_X3_fault rfl (Or.inl (lw_all_tbl q2195)) rfl (lw_all_tbl q2197) (lw_all_tbl q2196) wt_0 rfl dX3_reckon_52 rfl (rs := fun _ => []) (fun _ => rfl) (fun _ _ => ?_)
    refine s_goto (tgt := 71) o dX3_reckon_55 (by decide) ?_
    exact s_vret o rfl dX3_reckon_71 (fun _ hh => hh)
noncomputable def c_X3_reckon (l0 : Int) (l1 : Int) : Mo CH Int :=
  bnd (isk 103 l0) fun _ =>
  bnd (c_X3_taken l0) fun v1 =>
  bnd (isk 103 l0) fun _ =>
  bnd (c_X3_taken l0) fun v2 =>
  bnd (c_X1_isInt v2) fun v3 =>
  if v3 = 0 then
    c_X3_reckon_26 l0
  else
    bnd (c_X1_isInt v1) fun v4 =>
    if ¬ v4 = 0 then
      if l1 = 3 then
        c_X3_reckon_44 l0 l1 v1 v2
      else
        if ¬ l1 = 4 then
          c_X3_reckon_58 l0 l1 v1 v2
        else
          c_X3_reckon_44 l0 l1 v1 v2
    else
      c_X3_reckon_26 l0
theorem sc_X3_reckon (g : gC) (d : Nat) (ts : TS) (l0 : Int) (l1 : Int) (hl1 : R32 l1) : SF g yX3_reckon (Cond.code yX3_reckon cX3_reckon 6 (Option.none : Option Jvm.ClassFile.FieldType)) (Option.none : Option Jvm.ClassFile.FieldType) (d + 3) [vA g l0, vI l1] (fun h => (h, ts)) (c_X3_reckon l0 l1) := by
  refine SF.of (lv := [(0, vA g l0), (1, vI l1)]) (by decide) (wt_A (wt_I wt_0)) rfl (by simp only [la_A, la_I, la_J, la_0]) (fun Γ hg hnm o => ?_)
  subst hg
  have o : Ok Γ "LazyForge$Machine" cX3_reckon 6 (Option.none : Option Jvm.ClassFile.FieldType) (d + 3) := o
  unfold c_X3_reckon
  refine s_aload_n o dX3_reckon_0 rfl 0 rfl ?_
  refine s_cvC (d := d + 2) (As := []) (st := []) (c := 3) o (sc_X3_taken (mg Γ) (d + 2) ts l0) mw_X3_taken rfl (Or.inl (lw_all_tbl q2222)) rfl (lw_all_tbl q2224) (lw_all_tbl q2223) wt_0 rfl dX3_reckon_1 rfl (rs := fun r => [vJ r]) (fun _ => rfl) (fun v1 hv1 => ?_)
  refine r_lstore_n o dX3_reckon_4 rfl rfl ⟨(Nat.ne_of_beq_eq_false rfl), (Nat.ne_of_beq_eq_false rfl), (fun _ => (vA_cat (mg Γ) l0)), ⟨(Nat.ne_of_beq_eq_false rfl), (Nat.ne_of_beq_eq_false rfl), (fun _ => rfl), trivial⟩⟩ ?_
  refine s_aload_n o dX3_reckon_5 rfl 1 rfl ?_
  refine s_cvC (d := d + 2) (As := []) (st := []) (c := 3) o (sc_X3_taken (mg Γ) (d + 2) ts l0) mw_X3_taken rfl (Or.inl (lw_all_tbl q2222)) rfl (lw_all_tbl q2224) (lw_all_tbl q2223) wt_0 rfl dX3_reckon_6 rfl (rs := fun r => [vJ r]) (fun _ => rfl) (fun v2 hv2 => ?_)
  refine r_lstore o dX3_reckon_9 rfl ⟨(Nat.ne_of_beq_eq_false rfl), (Nat.ne_of_beq_eq_false rfl), (fun e => absurd e (Nat.ne_of_beq_eq_false rfl)), ⟨(Nat.ne_of_beq_eq_false rfl), (Nat.ne_of_beq_eq_false rfl), (fun _ => (vA_cat (mg Γ) l0)), ⟨(Nat.ne_of_beq_eq_false rfl), (Nat.ne_of_beq_eq_false rfl), (fun _ => rfl), trivial⟩⟩⟩ ?_
  refine s_lload o dX3_reckon_11 0 rfl ?_
  refine s_cs (d := d + 2) (As := [vJ v2]) (st := []) o (sc_X1_isInt (mg Γ) (d + 2) ts v2 (hv2 _ rfl)) mw_X1_isInt rfl (Or.inr ⟨_, q2391⟩) (lw_all_tbl q2007) wt_0 rfl dX3_reckon_13 rfl (rs := fun r => [vI r]) (fun _ => rfl) (fun v3 hv3 => ?_)
  refine s_if_eq (tgt := 26) o dX3_reckon_16 (by decide) (rZ (hv3 _ rfl)) ?_ ?_
  · refine r_to [(0, vA (mg Γ) l0)] [2] rfl ?_
    exact sc_X3_reckon_26 o l0
  · refine s_lload_n o dX3_reckon_19 rfl 1 rfl ?_
    refine s_cs (d := d + 2) (As := [vJ v1]) (st := []) o (sc_X1_isInt (mg Γ) (d + 2) ts v1 (hv1 _ rfl)) mw_X1_isInt rfl (Or.inr ⟨_, q2391⟩) (lw_all_tbl q2007) wt_0 rfl dX3_reckon_20 rfl (rs := fun r => [vI r]) (fun _ => rfl) (fun v4 hv4 => ?_)
    refine s_if_ne (tgt := 34) o dX3_reckon_23 (by decide) (rZ (hv4 _ rfl)) ?_ ?_
    · refine s_iload_n o dX3_reckon_34 rfl 3 rfl ?_
      refine s_iconst o dX3_reckon_35 ?_
      refine s_icmp_eq (tgt := 44) o dX3_reckon_36 (by decide) hl1 (r32 rfl) ?_ ?_
      · refine r_to [(0, vA (mg Γ) l0), (1, vI l1), (2, vJ v1), (4, vJ v2)] [2, 3, 1, 0] rfl ?_
        exact sc_X3_reckon_44 o l0 l1 v1 v2 hl1 (hv1 _ rfl) (hv2 _ rfl)
      · refine s_iload_n o dX3_reckon_39 rfl 3 rfl ?_
        refine s_iconst o dX3_reckon_40 ?_
        refine s_icmp_ne (tgt := 58) o dX3_reckon_41 (by decide) hl1 (r32 rfl) ?_ ?_
        · refine r_to [(0, vA (mg Γ) l0), (1, vI l1), (2, vJ v1), (4, vJ v2)] [2, 3, 1, 0] rfl ?_
          exact sc_X3_reckon_58 o l0 l1 v1 v2 hl1 (hv1 _ rfl) (hv2 _ rfl)
        · refine r_to [(0, vA (mg Γ) l0), (1, vI l1), (2, vJ v1), (4, vJ v2)] [2, 3, 1, 0] rfl ?_
          exact sc_X3_reckon_44 o l0 l1 v1 v2 hl1 (hv1 _ rfl) (hv2 _ rfl)
    · refine r_to [(0, vA (mg Γ) l0)] [2] rfl ?_
      exact sc_X3_reckon_26 o l0
theorem dX3_number_0 : decode cX3_number 0 = .ok (.aload_n 0, 1) := by decide +kernel
theorem dX3_number_1 : decode cX3_number 1 = .ok (.getfield 68, 3) := by decide +kernel
theorem dX3_number_4 : decode cX3_number 4 = .ok (.aload_n 0, 1) := by decide +kernel
theorem dX3_number_5 : decode cX3_number 5 = .ok (.getfield 268, 3) := by decide +kernel
theorem dX3_number_8 : decode cX3_number 8 = .ok (.iload_n 1, 1) := by decide +kernel
theorem dX3_number_9 : decode cX3_number 9 = .ok (.iastore, 1) := by decide +kernel
theorem dX3_number_10 : decode cX3_number 10 = .ok (.aload_n 0, 1) := by decide +kernel
theorem dX3_number_11 : decode cX3_number 11 = .ok (.dup, 1) := by decide +kernel
theorem dX3_number_12 : decode cX3_number 12 = .ok (.getfield 268, 3) := by decide +kernel
theorem dX3_number_15 : decode cX3_number 15 = .ok (.iconst 1, 1) := by decide +kernel
theorem dX3_number_16 : decode cX3_number 16 = .ok (.iadd, 1) := by decide +kernel
theorem dX3_number_17 : decode cX3_number 17 = .ok (.putfield 268, 3) := by decide +kernel
theorem dX3_number_20 : decode cX3_number 20 = .ok (.return_, 1) := by decide +kernel
theorem mw_X3_number : MW yX3_number (Cond.code yX3_number cX3_number 2 (Option.none : Option Jvm.ClassFile.FieldType)) cX3_number 2 (Option.none : Option Jvm.ClassFile.FieldType) 1 := ⟨rfl, ⟨(lw_all_tbl q2390), rfl, (lw_all_tbl q165)⟩, rfl, ⟨by decide, by decide⟩, by decide +kernel⟩
noncomputable def c_X3_number (l0 : Int) (l1 : Int) : Mo CH Int :=
  bnd (gf [103] 20 l0) fun v1 =>
  bnd (gf [103] 21 l0) fun v2 =>
  bnd (ast 0 v1 v2 l1) fun _ =>
  bnd (gf [103] 21 l0) fun v3 =>
  bnd (pf [103] 21 l0 (w32 (v3 + 1))) fun _ =>
  pr 0
theorem sc_X3_number (g : gC) (d : Nat) (ts : TS) (l0 : Int) (l1 : Int) (hl1 : R32 l1) : SF g yX3_number (Cond.code yX3_number cX3_number 2 (Option.none : Option Jvm.ClassFile.FieldType)) (Option.none : Option Jvm.ClassFile.FieldType) (d + 0) [vA g l0, vI l1] (fun h => (h, ts)) (c_X3_number l0 l1) := by
  refine SF.of (lv := [(0, vA g l0), (1, vI l1)]) (by decide) (wt_A (wt_I wt_0)) rfl (by simp only [la_A, la_I, la_J, la_0]) (fun Γ hg hnm o => ?_)
  subst hg
  have o : Ok Γ "LazyForge$Machine" cX3_number 2 (Option.none : Option Jvm.ClassFile.FieldType) (d + 0) := o
  unfold c_X3_number
  refine s_aload_n o dX3_number_0 rfl 0 rfl ?_
  refine r_getf (vA (mg Γ)) rfl o cf_X3_row (Or.inl (lw_all_tbl q351)) dX3_number_1 (fun v1 hv1 => ?_)
  refine s_aload_n o dX3_number_4 rfl 0 rfl ?_
  refine r_getf vI rfl o cf_X3_rowSize (Or.inl (lw_all_tbl q354)) dX3_number_5 (fun v2 hv2 => ?_)
  refine s_iload_n o dX3_number_8 rfl 1 rfl ?_
  refine r_iast o hv2 hl1 dX3_number_9 ?_
  refine s_aload_n o dX3_number_10 rfl 0 rfl ?_
  refine s_dup o dX3_number_11 (vA_cat (mg Γ) l0) ?_
  refine r_getf vI rfl o cf_X3_rowSize (Or.inl (lw_all_tbl q354)) dX3_number_12 (fun v3 hv3 => ?_)
  refine s_iconst o dX3_number_15 ?_
  refine s_iadd o dX3_number_16 ?_
  refine r_putf vI rfl o cf_X3_rowSize (Or.inl (lw_all_tbl q354)) dX3_number_17 (Or.inl rfl) (w32_R _) ty_int ?_
  exact s_vret o rfl dX3_number_20 (fun _ hh => hh)
theorem dX3_say_0 : decode cX3_say 0 = .ok (.aload_n 0, 1) := by decide +kernel
theorem dX3_say_1 : decode cX3_say 1 = .ok (.getfield 268, 3) := by decide +kernel
theorem dX3_say_4 : decode cX3_say 4 = .ok (.iload_n 1, 1) := by decide +kernel
theorem dX3_say_5 : decode cX3_say 5 = .ok (.iadd, 1) := by decide +kernel
theorem dX3_say_6 : decode cX3_say 6 = .ok (.sipush 1000, 3) := by decide +kernel
theorem dX3_say_9 : decode cX3_say 9 = .ok (.if_icmp .gt 5, 3) := by decide +kernel
theorem dX3_say_12 : decode cX3_say 12 = .ok (.iconst 1, 1) := by decide +kernel
theorem dX3_say_13 : decode cX3_say 13 = .ok (.ireturn, 1) := by decide +kernel
theorem dX3_say_14 : decode cX3_say 14 = .ok (.aload_n 0, 1) := by decide +kernel
theorem dX3_say_15 : decode cX3_say 15 = .ok (.iconst 3, 1) := by decide +kernel
theorem dX3_say_16 : decode cX3_say 16 = .ok (.iconst 3, 1) := by decide +kernel
theorem dX3_say_17 : decode cX3_say 17 = .ok (.invokevirtual 107, 3) := by decide +kernel
theorem dX3_say_20 : decode cX3_say 20 = .ok (.iconst 0, 1) := by decide +kernel
theorem dX3_say_21 : decode cX3_say 21 = .ok (.ireturn, 1) := by decide +kernel
theorem mw_X3_say : MW yX3_say (Cond.code yX3_say cX3_say 2 (Option.some Jvm.ClassFile.FieldType.boolean)) cX3_say 2 (Option.some Jvm.ClassFile.FieldType.boolean) 1 := ⟨rfl, ⟨(lw_all_tbl q2386), rfl, (lw_all_tbl q165)⟩, rfl, ⟨by decide, by decide⟩, by decide +kernel⟩
noncomputable def c_X3_say (l0 : Int) (l1 : Int) : Mo CH Int :=
  bnd (gf [103] 21 l0) fun v1 =>
  if 1000 < (w32 (v1 + l1)) then
    bnd (isk 103 l0) fun _ =>
    bnd (c_X3_end l0 3 3) fun _ =>
    pr 0
  else
    pr 1
theorem sc_X3_say (g : gC) (d : Nat) (ts : TS) (l0 : Int) (l1 : Int) (hl1 : R32 l1) : SF g yX3_say (Cond.code yX3_say cX3_say 2 (Option.some Jvm.ClassFile.FieldType.boolean)) (Option.some Jvm.ClassFile.FieldType.boolean) (d + 1) [vA g l0, vI l1] (fun h => (h, ts)) (c_X3_say l0 l1) := by
  refine SF.of (lv := [(0, vA g l0), (1, vI l1)]) (by decide) (wt_A (wt_I wt_0)) rfl (by simp only [la_A, la_I, la_J, la_0]) (fun Γ hg hnm o => ?_)
  subst hg
  have o : Ok Γ "LazyForge$Machine" cX3_say 2 (Option.some Jvm.ClassFile.FieldType.boolean) (d + 1) := o
  unfold c_X3_say
  refine s_aload_n o dX3_say_0 rfl 0 rfl ?_
  refine r_getf vI rfl o cf_X3_rowSize (Or.inl (lw_all_tbl q354)) dX3_say_1 (fun v1 hv1 => ?_)
  refine s_iload_n o dX3_say_4 rfl 1 rfl ?_
  refine s_iadd o dX3_say_5 ?_
  refine s_sipush o dX3_say_6 rfl ?_
  refine s_icmp_gt (tgt := 14) o dX3_say_9 (by decide) (w32_R _) (r32 rfl) ?_ ?_
  · refine s_aload_n o dX3_say_14 rfl 0 rfl ?_
    refine s_iconst o dX3_say_15 ?_
    refine s_iconst o dX3_say_16 ?_
    refine s_cvC (d := d + 0) (As := [vI 3, vI 3]) (st := []) (c := 3) o (sc_X3_end (mg Γ) d ts l0 3 3 (r32 rfl) (r32 rfl)) mw_X3_end rfl (Or.inl (lw_all_tbl q2167)) rfl (lw_all_tbl qs50) (lw_all_tbl q2169) wt_0 rfl dX3_say_17 rfl (rs := fun _ => []) (fun _ => rfl) (fun _ _ => ?_)
    refine s_iconst o dX3_say_20 ?_
    exact s_iret o rfl i_boolean (Or.inl rfl) dX3_say_21 (fun _ hh => hh)
  · refine s_iconst o dX3_say_12 ?_
    exact s_iret o rfl i_boolean (Or.inr rfl) dX3_say_13 (fun _ hh => hh)
theorem dX3_constructorOf_0 : decode cX3_constructorOf 0 = .ok (.aload_n 0, 1) := by decide +kernel
theorem dX3_constructorOf_1 : decode cX3_constructorOf 1 = .ok (.getfield 42, 3) := by decide +kernel
theorem dX3_constructorOf_4 : decode cX3_constructorOf 4 = .ok (.lload_n 1, 1) := by decide +kernel
theorem dX3_constructorOf_5 : decode cX3_constructorOf 5 = .ok (.l2i, 1) := by decide +kernel
theorem dX3_constructorOf_6 : decode cX3_constructorOf 6 = .ok (.laload, 1) := by decide +kernel
theorem dX3_constructorOf_7 : decode cX3_constructorOf 7 = .ok (.l2i, 1) := by decide +kernel
theorem dX3_constructorOf_8 : decode cX3_constructorOf 8 = .ok (.ireturn, 1) := by decide +kernel
theorem mw_X3_constructorOf : MW yX3_constructorOf (Cond.code yX3_constructorOf cX3_constructorOf 3 (Option.some Jvm.ClassFile.FieldType.int)) cX3_constructorOf 3 (Option.some Jvm.ClassFile.FieldType.int) 1 := ⟨rfl, ⟨(lw_all_tbl q2361), rfl, (lw_all_tbl q165)⟩, rfl, ⟨by decide, by decide⟩, by decide +kernel⟩
noncomputable def c_X3_constructorOf (l0 : Int) (l1 : Int) : Mo CH Int :=
  bnd (gf [103] 5 l0) fun v1 =>
  bnd (ald 1 v1 (l2i l1)) fun v2 =>
  pr (l2i v2)
theorem sc_X3_constructorOf (g : gC) (d : Nat) (ts : TS) (l0 : Int) (l1 : Int) (hl1 : R64 l1) : SF g yX3_constructorOf (Cond.code yX3_constructorOf cX3_constructorOf 3 (Option.some Jvm.ClassFile.FieldType.int)) (Option.some Jvm.ClassFile.FieldType.int) (d + 0) [vA g l0, vJ l1] (fun h => (h, ts)) (c_X3_constructorOf l0 l1) := by
  refine SF.of (lv := [(0, vA g l0), (1, vJ l1)]) (by decide) (wt_A (wt_J wt_0)) rfl (by simp only [la_A, la_I, la_J, la_0]) (fun Γ hg hnm o => ?_)
  subst hg
  have o : Ok Γ "LazyForge$Machine" cX3_constructorOf 3 (Option.some Jvm.ClassFile.FieldType.int) (d + 0) := o
  unfold c_X3_constructorOf
  refine s_aload_n o dX3_constructorOf_0 rfl 0 rfl ?_
  refine r_getf (vA (mg Γ)) rfl o cf_X3_cells (Or.inl (lw_all_tbl q333)) dX3_constructorOf_1 (fun v1 hv1 => ?_)
  refine s_lload_n o dX3_constructorOf_4 rfl 1 rfl ?_
  refine s_l2i o dX3_constructorOf_5 ?_
  refine r_lald o (l2i_R _) dX3_constructorOf_6 (fun v2 hv2 => ?_)
  refine s_l2i o dX3_constructorOf_7 ?_
  exact s_iret o rfl i_int (l2i_R _) dX3_constructorOf_8 (fun _ hh => hh)
theorem dX3_force_0 : decode cX3_force 0 = .ok (.aload_n 0, 1) := by decide +kernel
theorem dX3_force_1 : decode cX3_force 1 = .ok (.invokevirtual 237, 3) := by decide +kernel
theorem dX3_force_4 : decode cX3_force 4 = .ok (.lstore_n 1, 1) := by decide +kernel
theorem dX3_force_5 : decode cX3_force 5 = .ok (.lload_n 1, 1) := by decide +kernel
theorem dX3_force_6 : decode cX3_force 6 = .ok (.ldc2_w 241, 3) := by decide +kernel
theorem dX3_force_9 : decode cX3_force 9 = .ok (.invokestatic 176, 3) := by decide +kernel
theorem dX3_force_12 : decode cX3_force 12 = .ok (.ifCond .ne 13, 3) := by decide +kernel
theorem dX3_force_15 : decode cX3_force 15 = .ok (.lload_n 1, 1) := by decide +kernel
theorem dX3_force_16 : decode cX3_force 16 = .ok (.ldc2_w 133, 3) := by decide +kernel
theorem dX3_force_19 : decode cX3_force 19 = .ok (.invokestatic 176, 3) := by decide +kernel
theorem dX3_force_22 : decode cX3_force 22 = .ok (.ifCond .eq 17, 3) := by decide +kernel
theorem dX3_force_25 : decode cX3_force 25 = .ok (.aload_n 0, 1) := by decide +kernel
theorem dX3_force_26 : decode cX3_force 26 = .ok (.iconst 1, 1) := by decide +kernel
theorem dX3_force_27 : decode cX3_force 27 = .ok (.invokevirtual 271, 3) := by decide +kernel
theorem dX3_force_30 : decode cX3_force 30 = .ok (.ifCond .eq 8, 3) := by decide +kernel
theorem dX3_force_33 : decode cX3_force 33 = .ok (.aload_n 0, 1) := by decide +kernel
theorem dX3_force_34 : decode cX3_force 34 = .ok (.iconst 3, 1) := by decide +kernel
theorem dX3_force_35 : decode cX3_force 35 = .ok (.invokevirtual 275, 3) := by decide +kernel
theorem dX3_force_38 : decode cX3_force 38 = .ok (.return_, 1) := by decide +kernel
theorem dX3_force_39 : decode cX3_force 39 = .ok (.aload_n 0, 1) := by decide +kernel
theorem dX3_force_40 : decode cX3_force 40 = .ok (.iconst 2, 1) := by decide +kernel
theorem dX3_force_41 : decode cX3_force 41 = .ok (.invokevirtual 271, 3) := by decide +kernel
theorem dX3_force_44 : decode cX3_force 44 = .ok (.ifCond .ne 4, 3) := by decide +kernel
theorem dX3_force_47 : decode cX3_force 47 = .ok (.return_, 1) := by decide +kernel
theorem dX3_force_48 : decode cX3_force 48 = .ok (.aload_n 0, 1) := by decide +kernel
theorem dX3_force_49 : decode cX3_force 49 = .ok (.lload_n 1, 1) := by decide +kernel
theorem dX3_force_50 : decode cX3_force 50 = .ok (.invokestatic 254, 3) := by decide +kernel
theorem dX3_force_53 : decode cX3_force 53 = .ok (.ifCond .eq 7, 3) := by decide +kernel
theorem dX3_force_56 : decode cX3_force 56 = .ok (.iconst 1, 1) := by decide +kernel
theorem dX3_force_57 : decode cX3_force 57 = .ok (.goto 4, 3) := by decide +kernel
theorem dX3_force_60 : decode cX3_force 60 = .ok (.iconst 2, 1) := by decide +kernel
theorem dX3_force_61 : decode cX3_force 61 = .ok (.invokevirtual 275, 3) := by decide +kernel
theorem dX3_force_64 : decode cX3_force 64 = .ok (.aload_n 0, 1) := by decide +kernel
theorem dX3_force_65 : decode cX3_force 65 = .ok (.lload_n 1, 1) := by decide +kernel
theorem dX3_force_66 : decode cX3_force 66 = .ok (.invokestatic 254, 3) := by decide +kernel
theorem dX3_force_69 : decode cX3_force 69 = .ok (.ifCond .ne 13, 3) := by decide +kernel
theorem dX3_force_72 : decode cX3_force 72 = .ok (.lload_n 1, 1) := by decide +kernel
theorem dX3_force_73 : decode cX3_force 73 = .ok (.ldc2_w 277, 3) := by decide +kernel
theorem dX3_force_76 : decode cX3_force 76 = .ok (.invokestatic 176, 3) := by decide +kernel
theorem dX3_force_79 : decode cX3_force 79 = .ok (.ifCond .eq 8, 3) := by decide +kernel
theorem dX3_force_82 : decode cX3_force 82 = .ok (.lload_n 1, 1) := by decide +kernel
theorem dX3_force_83 : decode cX3_force 83 = .ok (.l2i, 1) := by decide +kernel
theorem dX3_force_84 : decode cX3_force 84 = .ok (.goto 8, 3) := by decide +kernel
theorem dX3_force_87 : decode cX3_force 87 = .ok (.aload_n 0, 1) := by decide +kernel
theorem dX3_force_88 : decode cX3_force 88 = .ok (.lload_n 1, 1) := by decide +kernel
theorem dX3_force_89 : decode cX3_force 89 = .ok (.invokevirtual 279, 3) := by decide +kernel
theorem dX3_force_92 : decode cX3_force 92 = .ok (.invokevirtual 275, 3) := by decide +kernel
theorem dX3_force_95 : decode cX3_force 95 = .ok (.lload_n 1, 1) := by decide +kernel
theorem dX3_force_96 : decode cX3_force 96 = .ok (.ldc2_w 123, 3) := by decide +kernel
theorem dX3_force_99 : decode cX3_force 99 = .ok (.invokestatic 176, 3) := by decide +kernel
theorem dX3_force_102 : decode cX3_force 102 = .ok (.ifCond .ne 4, 3) := by decide +kernel
theorem dX3_force_105 : decode cX3_force 105 = .ok (.return_, 1) := by decide +kernel
theorem dX3_force_106 : decode cX3_force 106 = .ok (.aload_n 0, 1) := by decide +kernel
theorem dX3_force_107 : decode cX3_force 107 = .ok (.getfield 186, 3) := by decide +kernel
theorem dX3_force_110 : decode cX3_force 110 = .ok (.getfield 283, 3) := by decide +kernel
theorem dX3_force_113 : decode cX3_force 113 = .ok (.aload_n 0, 1) := by decide +kernel
theorem dX3_force_114 : decode cX3_force 114 = .ok (.lload_n 1, 1) := by decide +kernel
theorem dX3_force_115 : decode cX3_force 115 = .ok (.invokevirtual 279, 3) := by decide +kernel
theorem dX3_force_118 : decode cX3_force 118 = .ok (.iaload, 1) := by decide +kernel
theorem dX3_force_119 : decode cX3_force 119 = .ok (.iconst 1, 1) := by decide +kernel
theorem dX3_force_120 : decode cX3_force 120 = .ok (.isub, 1) := by decide +kernel
theorem dX3_force_121 : decode cX3_force 121 = .ok (.istore_n 3, 1) := by decide +kernel
theorem dX3_force_122 : decode cX3_force 122 = .ok (.iload_n 3, 1) := by decide +kernel
theorem dX3_force_123 : decode cX3_force 123 = .ok (.ifCond .lt 32, 3) := by decide +kernel
theorem dX3_force_126 : decode cX3_force 126 = .ok (.aload_n 0, 1) := by decide +kernel
theorem dX3_force_127 : decode cX3_force 127 = .ok (.aload_n 0, 1) := by decide +kernel
theorem dX3_force_128 : decode cX3_force 128 = .ok (.getfield 39, 3) := by decide +kernel
theorem dX3_force_131 : decode cX3_force 131 = .ok (.iconst 0, 1) := by decide +kernel
theorem dX3_force_132 : decode cX3_force 132 = .ok (.invokevirtual 81, 3) := by decide +kernel
theorem dX3_force_135 : decode cX3_force 135 = .ok (.aload_n 0, 1) := by decide +kernel
theorem dX3_force_136 : decode cX3_force 136 = .ok (.aload_n 0, 1) := by decide +kernel
theorem dX3_force_137 : decode cX3_force 137 = .ok (.getfield 33, 3) := by decide +kernel
theorem dX3_force_140 : decode cX3_force 140 = .ok (.lload_n 1, 1) := by decide +kernel
theorem dX3_force_141 : decode cX3_force 141 = .ok (.l2i, 1) := by decide +kernel
theorem dX3_force_142 : decode cX3_force 142 = .ok (.iconst 1, 1) := by decide +kernel
theorem dX3_force_143 : decode cX3_force 143 = .ok (.iadd, 1) := by decide +kernel
theorem dX3_force_144 : decode cX3_force 144 = .ok (.iload_n 3, 1) := by decide +kernel
theorem dX3_force_145 : decode cX3_force 145 = .ok (.iadd, 1) := by decide +kernel
theorem dX3_force_146 : decode cX3_force 146 = .ok (.invokevirtual 81, 3) := by decide +kernel
theorem dX3_force_149 : decode cX3_force 149 = .ok (.iinc 3 (-1), 3) := by decide +kernel
theorem dX3_force_152 : decode cX3_force 152 = .ok (.goto (-30), 3) := by decide +kernel
theorem dX3_force_155 : decode cX3_force 155 = .ok (.return_, 1) := by decide +kernel
theorem mw_X3_force : MW yX3_force (Cond.code yX3_force cX3_force 4 (Option.none : Option Jvm.ClassFile.FieldType)) cX3_force 4 (Option.none : Option Jvm.ClassFile.FieldType) 0 := ⟨rfl, ⟨(lw_all_tbl q2382), rfl, (lw_all_tbl q165)⟩, rfl, ⟨by decide, by decide⟩, by decide +kernel⟩
abbrev okc_X3_force_122 (x : Int × Int × Int) : Prop := R64 x.2.1 ∧ R32 x.2.2
abbrev lvc_X3_force_122 (Γ : Gm) (x : Int × Int × Int) : List (Nat × Value) := [(0, vA (mg Γ) x.1), (1, vJ x.2.1), (3, vI x.2.2)]
noncomputable def c_X3_force_122b {A : Type} (k_155 : Mo CH A) (l0 : Int) (l1 : Int) (l3 : Int) : Mo CH ((Int × Int × Int) ⊕ A) :=
  if l3 < 0 then
    lo k_155
  else
    bnd (gf [103] 4 l0) fun v1 =>
    bnd (isk 103 l0) fun _ =>
    bnd (c_X3_again l0 v1 0) fun _ =>
    bnd (gf [103] 3 l0) fun v2 =>
    bnd (isk 103 l0) fun _ =>
    bnd (c_X3_again l0 v2 (w32 ((w32 ((l2i l1) + 1)) + l3))) fun _ =>
    pr (.inl (l0, l1, (w32 (l3 + (-1)))))
theorem sc_X3_force_122b {Γ : Gm} {ts : TS} {d : Nat} (o : Ok Γ "LazyForge$Machine" cX3_force 4 (Option.none : Option Jvm.ClassFile.FieldType) (d + 2)) {A : Type} {K : A → CH → Prop} (k_155 : Mo CH A) (hk_155 : Sx Γ (fun h => (h, ts)) K 155 [] [] (k_155)) (l0 : Int) (l1 : Int) (l3 : Int) (hl1 : R64 l1) (hl3 : R32 l3) : Sx Γ (fun h => (h, ts)) (KL Γ (fun h => (h, ts)) okc_X3_force_122 K 122 (lvc_X3_force_122 Γ) []) 122 [(0, vA (mg Γ) l0), (1, vJ l1), (3, vI l3)] [] (c_X3_force_122b k_155 l0 l1 l3) := by
  unfold c_X3_force_122b
  refine s_iload_n o dX3_force_122 rfl 2 rfl ?_
  refine s_if_lt (tgt := 155) o dX3_force_123 (by decide) hl3 ?_ ?_
  · refine r_to [] [] rfl ?_
    exact s_lo hk_155
  · refine s_aload_n o dX3_force_126 rfl 0 rfl ?_
    refine s_aload_n o dX3_force_127 rfl 0 rfl ?_
    refine r_getf (vA (mg Γ)) rfl o cf_X3_forcing (Or.inl (lw_all_tbl q332)) dX3_force_128 (fun v1 hv1 => ?_)
    refine s_iconst o dX3_force_131 ?_
    refine s_cvC (d := d + 1) (As := [vA (mg Γ) v1, vI 0]) (st := []) (c := 3) o (sc_X3_again (mg Γ) d ts l0 v1 0 (r32 rfl)) mw_X3_again rfl (Or.inl (lw_all_tbl q2174)) rfl (lw_all_tbl q2176) (lw_all_tbl q2175) wt_0 rfl dX3_force_132 rfl (rs := fun _ => []) (fun _ => rfl) (fun _ _ => ?_)
    refine s_aload_n o dX3_force_135 rfl 0 rfl ?_
    refine s_aload_n o dX3_force_136 rfl 0 rfl ?_
    refine r_getf (vA (mg Γ)) rfl o cf_X3_entering (Or.inl (lw_all_tbl q331)) dX3_force_137 (fun v2 hv2 => ?_)
    refine s_lload_n o dX3_force_140 rfl 1 rfl ?_
    refine s_l2i o dX3_force_141 ?_
    refine s_iconst o dX3_force_142 ?_
    refine s_iadd o dX3_force_143 ?_
    refine s_iload_n o dX3_force_144 rfl 2 rfl ?_
    refine s_iadd o dX3_force_145 ?_
    refine s_cvC (d := d + 1) (As := [vA (mg Γ) v2, vI (w32 ((w32 ((l2i l1) + 1)) + l3))]) (st := []) (c := 3) o (sc_X3_again (mg Γ) d ts l0 v2 (w32 ((w32 ((l2i l1) + 1)) + l3)) (w32_R _)) mw_X3_again rfl (Or.inl (lw_all_tbl q2174)) rfl (lw_all_tbl q2176) (lw_all_tbl q2175) wt_0 rfl dX3_force_146 rfl (rs := fun _ => []) (fun _ => rfl) (fun _ _ => ?_)
    refine r_iinc (j := 2) o dX3_force_149 rfl rfl [(0, vA (mg Γ) l0), (1, vJ l1)] [0, 1] rfl ⟨(Nat.ne_of_beq_eq_false rfl), (fun _ => (vA_cat (mg Γ) l0)), ⟨(Nat.ne_of_beq_eq_false rfl), (fun e => absurd e (Nat.ne_of_beq_eq_false rfl)), trivial⟩⟩ ?_
    refine s_goto (tgt := 122) o dX3_force_152 (by decide) ?_
    refine r_to [(0, vA (mg Γ) l0), (1, vJ l1), (3, vI (w32 (l3 + (-1))))] [1, 2, 0] rfl ?_
    exact s_back (⟨hl1, (w32_R _)⟩) rfl
noncomputable def c_X3_force_122 {A : Type} (k_155 : Mo CH A) (l0 : Int) (l1 : Int) (l3 : Int) : Mo CH A := Loop (fun x => c_X3_force_122b k_155 x.1 x.2.1 x.2.2) (l0, l1, l3)
theorem sc_X3_force_122 {Γ : Gm} {ts : TS} {d : Nat} (o : Ok Γ "LazyForge$Machine" cX3_force 4 (Option.none : Option Jvm.ClassFile.FieldType) (d + 2)) {A : Type} {K : A → CH → Prop} (k_155 : Mo CH A) (hk_155 : Sx Γ (fun h => (h, ts)) K 155 [] [] (k_155)) (l0 : Int) (l1 : Int) (l3 : Int) (hl1 : R64 l1) (hl3 : R32 l3) : Sx Γ (fun h => (h, ts)) K 122 [(0, vA (mg Γ) l0), (1, vJ l1), (3, vI l3)] [] (c_X3_force_122 k_155 l0 l1 l3) :=
  s_loop okc_X3_force_122 (lvc_X3_force_122 Γ) (fun x hx => sc_X3_force_122b o k_155 hk_155 x.1 x.2.1 x.2.2 hx.1 hx.2) (x := (l0, l1, l3)) ⟨hl1, hl3⟩
noncomputable def c_X3_force_25  (l0 : Int) : Mo CH Int :=
  bnd (isk 103 l0) fun _ =>
  bnd (c_X3_say l0 1) fun v1 =>
  if v1 = 0 then
    pr 0
  else
    bnd (isk 103 l0) fun _ =>
    bnd (c_X3_number l0 3) fun _ =>
    pr 0
theorem sc_X3_force_25 {Γ : Gm} {ts : TS} {d : Nat} (o : Ok Γ "LazyForge$Machine" cX3_force 4 (Option.none : Option Jvm.ClassFile.FieldType) (d + 2))   (l0 : Int) : Sx Γ (fun h => (h, ts)) (fun a s => mt Γ = (0, a, ((s, ts) : Wd))) 25 [(0, vA (mg Γ) l0)] [] (c_X3_force_25 l0) := by
  unfold c_X3_force_25
  refine s_aload_n o dX3_force_25 rfl 0 rfl ?_
  refine s_iconst o dX3_force_26 ?_
  refine s_cvC (d := d + 1) (As := [vI 1]) (st := []) (c := 3) o (sc_X3_say (mg Γ) d ts l0 1 (r32 rfl)) mw_X3_say rfl (Or.inl (lw_all_tbl q2383)) rfl (lw_all_tbl qs53) (lw_all_tbl q2385) wt_0 rfl dX3_force_27 rfl (rs := fun r => [vI r]) (fun _ => rfl) (fun v1 hv1 => ?_)
  refine s_if_eq (tgt := 38) o dX3_force_30 (by decide) (rZ (hv1 _ rfl)) ?_ ?_
  · exact s_vret o rfl dX3_force_38 (fun _ hh => hh)
  · refine s_aload_n o dX3_force_33 rfl 0 rfl ?_
    refine s_iconst o dX3_force_34 ?_
    refine s_cvC (d := d + 1) (As := [vI 3]) (st := []) (c := 3) o (sc_X3_number (mg Γ) (d + 1) ts l0 3 (r32 rfl)) mw_X3_number rfl (Or.inl (lw_all_tbl q2387)) rfl (lw_all_tbl qs54) (lw_all_tbl q2389) wt_0 rfl dX3_force_35 rfl (rs := fun _ => []) (fun _ => rfl) (fun _ _ => ?_)
    exact s_vret o rfl dX3_force_38 (fun _ hh => hh)
noncomputable def c_X3_force_92  (l0 : Int) (l1 : Int) (k0 : Int) (k1 : Int) : Mo CH Int :=
  bnd (isk 103 k1) fun _ =>
  bnd (c_X3_number k1 k0) fun _ =>
  bnd (c_X1_isSort l1 12884901888) fun v1 =>
  if ¬ v1 = 0 then
    bnd (gf [103] 16 l0) fun v2 =>
    bnd (gf [115] 6 v2) fun v3 =>
    bnd (isk 103 l0) fun _ =>
    bnd (c_X3_constructorOf l0 l1) fun v4 =>
    bnd (ald 0 v3 v4) fun v5 =>
    c_X3_force_122
      (pr 0) l0 l1 (w32 (v5 - 1))
  else
    pr 0
theorem sc_X3_force_92 {Γ : Gm} {ts : TS} {d : Nat} (o : Ok Γ "LazyForge$Machine" cX3_force 4 (Option.none : Option Jvm.ClassFile.FieldType) (d + 2))   (l0 : Int) (l1 : Int) (k0 : Int) (k1 : Int) (hl1 : R64 l1) (hk0 : R32 k0) : Sx Γ (fun h => (h, ts)) (fun a s => mt Γ = (0, a, ((s, ts) : Wd))) 92 [(0, vA (mg Γ) l0), (1, vJ l1)] [vI k0, vA (mg Γ) k1] (c_X3_force_92 l0 l1 k0 k1) := by
  unfold c_X3_force_92
  refine s_cvC (d := d + 1) (As := [vI k0]) (st := []) (c := 3) o (sc_X3_number (mg Γ) (d + 1) ts k1 k0 hk0) mw_X3_number rfl (Or.inl (lw_all_tbl q2387)) rfl (lw_all_tbl qs54) (lw_all_tbl q2389) wt_0 rfl dX3_force_92 rfl (rs := fun _ => []) (fun _ => rfl) (fun _ _ => ?_)
  refine s_lload_n o dX3_force_95 rfl 1 rfl ?_
  refine s_ldc2 (n := 12884901888) o dX3_force_96 (lw_all_tbl q2303) rfl ?_
  refine s_cs (d := d + 1) (As := [vJ l1, vJ 12884901888]) (st := []) o (sc_X1_isSort (mg Γ) (d + 1) ts l1 12884901888 hl1 (r64 rfl)) mw_X1_isSort rfl (Or.inr ⟨_, q2183⟩) (lw_all_tbl q2184) wt_0 rfl dX3_force_99 rfl (rs := fun r => [vI r]) (fun _ => rfl) (fun v1 hv1 => ?_)
  refine s_if_ne (tgt := 106) o dX3_force_102 (by decide) (rZ (hv1 _ rfl)) ?_ ?_
  · refine s_aload_n o dX3_force_106 rfl 0 rfl ?_
    refine r_getf (vA (mg Γ)) rfl o cf_X3_program (Or.inl (lw_all_tbl q345)) dX3_force_107 (fun v2 hv2 => ?_)
    refine r_getf (vA (mg Γ)) rfl o cf_X15_fields (Or.inr (Or.inl ⟨_, q1078⟩)) dX3_force_110 (fun v3 hv3 => ?_)
    refine s_aload_n o dX3_force_113 rfl 0 rfl ?_
    refine s_lload_n o dX3_force_114 rfl 1 rfl ?_
    refine s_cvC (d := d + 1) (As := [vJ l1]) (st := [vA (mg Γ) v3]) (c := 3) o (sc_X3_constructorOf (mg Γ) (d + 1) ts l0 l1 hl1) mw_X3_constructorOf rfl (Or.inl (lw_all_tbl q2393)) rfl (lw_all_tbl q2360) (lw_all_tbl q2359) (wt_A wt_0) rfl dX3_force_115 rfl (rs := fun r => [vI r, vA (mg Γ) v3]) (fun _ => rfl) (fun v4 hv4 => ?_)
    refine r_iald o (hv4 _ rfl) dX3_force_118 (fun v5 hv5 => ?_)
    refine s_iconst o dX3_force_119 ?_
    refine s_isub o dX3_force_120 ?_
    refine r_istore_n o dX3_force_121 rfl rfl ⟨(Nat.ne_of_beq_eq_false rfl), (fun _ => (vA_cat (mg Γ) l0)), ⟨(Nat.ne_of_beq_eq_false rfl), (fun e => absurd e (Nat.ne_of_beq_eq_false rfl)), trivial⟩⟩ ?_
    refine r_to [(0, vA (mg Γ) l0), (1, vJ l1), (3, vI (w32 (v5 - 1)))] [1, 2, 0] rfl ?_
    refine sc_X3_force_122 o _ ?_ l0 l1 (w32 (v5 - 1)) hl1 (w32_R _)
    · exact s_vret o rfl dX3_force_155 (fun _ hh => hh)
  · exact s_vret o rfl dX3_force_105 (fun _ hh => hh)
noncomputable def c_X3_force_82  (l0 : Int) (l1 : Int) (k0 : Int) : Mo CH Int :=
  c_X3_force_92 l0 l1 (l2i l1) k0
theorem sc_X3_force_82 {Γ : Gm} {ts : TS} {d : Nat} (o : Ok Γ "LazyForge$Machine" cX3_force 4 (Option.none : Option Jvm.ClassFile.FieldType) (d + 2))   (l0 : Int) (l1 : Int) (k0 : Int) (hl1 : R64 l1) : Sx Γ (fun h => (h, ts)) (fun a s => mt Γ = (0, a, ((s, ts) : Wd))) 82 [(0, vA (mg Γ) l0), (1, vJ l1)] [vA (mg Γ) k0] (c_X3_force_82 l0 l1 k0) := by
  unfold c_X3_force_82
  refine s_lload_n o dX3_force_82 rfl 1 rfl ?_
  refine s_l2i o dX3_force_83 ?_
  refine s_goto (tgt := 92) o dX3_force_84 (by decide) ?_
  exact sc_X3_force_92 o l0 l1 (l2i l1) k0 hl1 (l2i_R _)
noncomputable def c_X3_force_61  (l0 : Int) (l1 : Int) (k0 : Int) (k1 : Int) : Mo CH Int :=
  bnd (isk 103 k1) fun _ =>
  bnd (c_X3_number k1 k0) fun _ =>
  bnd (c_X1_isInt l1) fun v1 =>
  if ¬ v1 = 0 then
    c_X3_force_82 l0 l1 l0
  else
    bnd (c_X1_isSort l1 4294967296) fun v2 =>
    if v2 = 0 then
      bnd (isk 103 l0) fun _ =>
      bnd (c_X3_constructorOf l0 l1) fun v3 =>
      c_X3_force_92 l0 l1 v3 l0
    else
      c_X3_force_82 l0 l1 l0
theorem sc_X3_force_61 {Γ : Gm} {ts : TS} {d : Nat} (o : Ok Γ "LazyForge$Machine" cX3_force 4 (Option.none : Option Jvm.ClassFile.FieldType) (d + 2))   (l0 : Int) (l1 : Int) (k0 : Int) (k1 : Int) (hl1 : R64 l1) (hk0 : R32 k0) : Sx Γ (fun h => (h, ts)) (fun a s => mt Γ = (0, a, ((s, ts) : Wd))) 61 [(0, vA (mg Γ) l0), (1, vJ l1)] [vI k0, vA (mg Γ) k1] (c_X3_force_61 l0 l1 k0 k1) := by
  unfold c_X3_force_61
  refine s_cvC (d := d + 1) (As := [vI k0]) (st := []) (c := 3) o (sc_X3_number (mg Γ) (d + 1) ts k1 k0 hk0) mw_X3_number rfl (Or.inl (lw_all_tbl q2387)) rfl (lw_all_tbl qs54) (lw_all_tbl q2389) wt_0 rfl dX3_force_61 rfl (rs := fun _ => []) (fun _ => rfl) (fun _ _ => ?_)
  refine s_aload_n o dX3_force_64 rfl 0 rfl ?_
  refine s_lload_n o dX3_force_65 rfl 1 rfl ?_
  refine s_cs (d := d + 1) (As := [vJ l1]) (st := [vA (mg Γ) l0]) o (sc_X1_isInt (mg Γ) (d + 1) ts l1 hl1) mw_X1_isInt rfl (Or.inr ⟨_, q2391⟩) (lw_all_tbl q2007) (wt_A wt_0) rfl dX3_force_66 rfl (rs := fun r => [vI r, vA (mg Γ) l0]) (fun _ => rfl) (fun v1 hv1 => ?_)
  refine s_if_ne (tgt := 82) o dX3_force_69 (by decide) (rZ (hv1 _ rfl)) ?_ ?_
  · exact sc_X3_force_82 o l0 l1 l0 hl1
  · refine s_lload_n o dX3_force_72 rfl 1 rfl ?_
    refine s_ldc2 (n := 4294967296) o dX3_force_73 (lw_all_tbl q2392) rfl ?_
    refine s_cs (d := d + 1) (As := [vJ l1, vJ 4294967296]) (st := [vA (mg Γ) l0]) o (sc_X1_isSort (mg Γ) (d + 1) ts l1 4294967296 hl1 (r64 rfl)) mw_X1_isSort rfl (Or.inr ⟨_, q2183⟩) (lw_all_tbl q2184) (wt_A wt_0) rfl dX3_force_76 rfl (rs := fun r => [vI r, vA (mg Γ) l0]) (fun _ => rfl) (fun v2 hv2 => ?_)
    refine s_if_eq (tgt := 87) o dX3_force_79 (by decide) (rZ (hv2 _ rfl)) ?_ ?_
    · refine s_aload_n o dX3_force_87 rfl 0 rfl ?_
      refine s_lload_n o dX3_force_88 rfl 1 rfl ?_
      refine s_cvC (d := d + 1) (As := [vJ l1]) (st := [vA (mg Γ) l0]) (c := 3) o (sc_X3_constructorOf (mg Γ) (d + 1) ts l0 l1 hl1) mw_X3_constructorOf rfl (Or.inl (lw_all_tbl q2393)) rfl (lw_all_tbl q2360) (lw_all_tbl q2359) (wt_A wt_0) rfl dX3_force_89 rfl (rs := fun r => [vI r, vA (mg Γ) l0]) (fun _ => rfl) (fun v3 hv3 => ?_)
      exact sc_X3_force_92 o l0 l1 v3 l0 hl1 (hv3 _ rfl)
    · exact sc_X3_force_82 o l0 l1 l0 hl1
noncomputable def c_X3_force (l0 : Int) : Mo CH Int :=
  bnd (isk 103 l0) fun _ =>
  bnd (c_X3_taken l0) fun v1 =>
  bnd (c_X1_isSort v1 8589934592) fun v2 =>
  if ¬ v2 = 0 then
    c_X3_force_25 l0
  else
    bnd (c_X1_isSort v1 17179869184) fun v3 =>
    if v3 = 0 then
      bnd (isk 103 l0) fun _ =>
      bnd (c_X3_say l0 2) fun v4 =>
      if ¬ v4 = 0 then
        bnd (c_X1_isInt v1) fun v5 =>
        if v5 = 0 then
          c_X3_force_61 l0 v1 2 l0
        else
          c_X3_force_61 l0 v1 1 l0
      else
        pr 0
    else
      c_X3_force_25 l0
theorem sc_X3_force (g : gC) (d : Nat) (ts : TS) (l0 : Int) : SF g yX3_force (Cond.code yX3_force cX3_force 4 (Option.none : Option Jvm.ClassFile.FieldType)) (Option.none : Option Jvm.ClassFile.FieldType) (d + 2) [vA g l0] (fun h => (h, ts)) (c_X3_force l0) := by
  refine SF.of (lv := [(0, vA g l0)]) (by decide) (wt_A wt_0) rfl (by simp only [la_A, la_I, la_J, la_0]) (fun Γ hg hnm o => ?_)
  subst hg
  have o : Ok Γ "LazyForge$Machine" cX3_force 4 (Option.none : Option Jvm.ClassFile.FieldType) (d + 2) := o
  unfold c_X3_force
  refine s_aload_n o dX3_force_0 rfl 0 rfl ?_
  refine s_cvC (d := d + 1) (As := []) (st := []) (c := 3) o (sc_X3_taken (mg Γ) (d + 1) ts l0) mw_X3_taken rfl (Or.inl (lw_all_tbl q2222)) rfl (lw_all_tbl q2224) (lw_all_tbl q2223) wt_0 rfl dX3_force_1 rfl (rs := fun r => [vJ r]) (fun _ => rfl) (fun v1 hv1 => ?_)
  refine r_lstore_n o dX3_force_4 rfl rfl ⟨(Nat.ne_of_beq_eq_false rfl), (Nat.ne_of_beq_eq_false rfl), (fun _ => (vA_cat (mg Γ) l0)), trivial⟩ ?_
  refine s_lload_n o dX3_force_5 rfl 0 rfl ?_
  refine s_ldc2 (n := 8589934592) o dX3_force_6 (lw_all_tbl q2226) rfl ?_
  refine s_cs (d := d + 1) (As := [vJ v1, vJ 8589934592]) (st := []) o (sc_X1_isSort (mg Γ) (d + 1) ts v1 8589934592 (hv1 _ rfl) (r64 rfl)) mw_X1_isSort rfl (Or.inr ⟨_, q2183⟩) (lw_all_tbl q2184) wt_0 rfl dX3_force_9 rfl (rs := fun r => [vI r]) (fun _ => rfl) (fun v2 hv2 => ?_)
  refine s_if_ne (tgt := 25) o dX3_force_12 (by decide) (rZ (hv2 _ rfl)) ?_ ?_
  · refine r_to [(0, vA (mg Γ) l0)] [1] rfl ?_
    exact sc_X3_force_25 o l0
  · refine s_lload_n o dX3_force_15 rfl 0 rfl ?_
    refine s_ldc2 (n := 17179869184) o dX3_force_16 (lw_all_tbl q2227) rfl ?_
    refine s_cs (d := d + 1) (As := [vJ v1, vJ 17179869184]) (st := []) o (sc_X1_isSort (mg Γ) (d + 1) ts v1 17179869184 (hv1 _ rfl) (r64 rfl)) mw_X1_isSort rfl (Or.inr ⟨_, q2183⟩) (lw_all_tbl q2184) wt_0 rfl dX3_force_19 rfl (rs := fun r => [vI r]) (fun _ => rfl) (fun v3 hv3 => ?_)
    refine s_if_eq (tgt := 39) o dX3_force_22 (by decide) (rZ (hv3 _ rfl)) ?_ ?_
    · refine s_aload_n o dX3_force_39 rfl 1 rfl ?_
      refine s_iconst o dX3_force_40 ?_
      refine s_cvC (d := d + 1) (As := [vI 2]) (st := []) (c := 3) o (sc_X3_say (mg Γ) d ts l0 2 (r32 rfl)) mw_X3_say rfl (Or.inl (lw_all_tbl q2383)) rfl (lw_all_tbl qs53) (lw_all_tbl q2385) wt_0 rfl dX3_force_41 rfl (rs := fun r => [vI r]) (fun _ => rfl) (fun v4 hv4 => ?_)
      refine s_if_ne (tgt := 48) o dX3_force_44 (by decide) (rZ (hv4 _ rfl)) ?_ ?_
      · refine s_aload_n o dX3_force_48 rfl 1 rfl ?_
        refine s_lload_n o dX3_force_49 rfl 0 rfl ?_
        refine s_cs (d := d + 1) (As := [vJ v1]) (st := [vA (mg Γ) l0]) o (sc_X1_isInt (mg Γ) (d + 1) ts v1 (hv1 _ rfl)) mw_X1_isInt rfl (Or.inr ⟨_, q2391⟩) (lw_all_tbl q2007) (wt_A wt_0) rfl dX3_force_50 rfl (rs := fun r => [vI r, vA (mg Γ) l0]) (fun _ => rfl) (fun v5 hv5 => ?_)
        refine s_if_eq (tgt := 60) o dX3_force_53 (by decide) (rZ (hv5 _ rfl)) ?_ ?_
        · refine s_iconst o dX3_force_60 ?_
          refine r_to [(0, vA (mg Γ) l0), (1, vJ v1)] [1, 0] rfl ?_
          exact sc_X3_force_61 o l0 v1 2 l0 (hv1 _ rfl) (r32 rfl)
        · refine s_iconst o dX3_force_56 ?_
          refine s_goto (tgt := 61) o dX3_force_57 (by decide) ?_
          refine r_to [(0, vA (mg Γ) l0), (1, vJ v1)] [1, 0] rfl ?_
          exact sc_X3_force_61 o l0 v1 1 l0 (hv1 _ rfl) (r32 rfl)
      · exact s_vret o rfl dX3_force_47 (fun _ hh => hh)
    · refine r_to [(0, vA (mg Γ) l0)] [1] rfl ?_
      exact sc_X3_force_25 o l0
theorem dX3_fieldOf_0 : decode cX3_fieldOf 0 = .ok (.aload_n 0, 1) := by decide +kernel
theorem dX3_fieldOf_1 : decode cX3_fieldOf 1 = .ok (.getfield 42, 3) := by decide +kernel
theorem dX3_fieldOf_4 : decode cX3_fieldOf 4 = .ok (.lload_n 1, 1) := by decide +kernel
theorem dX3_fieldOf_5 : decode cX3_fieldOf 5 = .ok (.l2i, 1) := by decide +kernel
theorem dX3_fieldOf_6 : decode cX3_fieldOf 6 = .ok (.iconst 1, 1) := by decide +kernel
theorem dX3_fieldOf_7 : decode cX3_fieldOf 7 = .ok (.iadd, 1) := by decide +kernel
theorem dX3_fieldOf_8 : decode cX3_fieldOf 8 = .ok (.iload_n 3, 1) := by decide +kernel
theorem dX3_fieldOf_9 : decode cX3_fieldOf 9 = .ok (.iadd, 1) := by decide +kernel
theorem dX3_fieldOf_10 : decode cX3_fieldOf 10 = .ok (.laload, 1) := by decide +kernel
theorem dX3_fieldOf_11 : decode cX3_fieldOf 11 = .ok (.lreturn, 1) := by decide +kernel
theorem mw_X3_fieldOf : MW yX3_fieldOf (Cond.code yX3_fieldOf cX3_fieldOf 4 (Option.some Jvm.ClassFile.FieldType.long)) cX3_fieldOf 4 (Option.some Jvm.ClassFile.FieldType.long) 2 := ⟨rfl, ⟨(lw_all_tbl q2366), rfl, (lw_all_tbl q165)⟩, rfl, ⟨by decide, by decide⟩, by decide +kernel⟩
noncomputable def c_X3_fieldOf (l0 : Int) (l1 : Int) (l3 : Int) : Mo CH Int :=
  bnd (gf [103] 5 l0) fun v1 =>
  bnd (ald 1 v1 (w32 ((w32 ((l2i l1) + 1)) + l3))) fun v2 =>
  pr v2
theorem sc_X3_fieldOf (g : gC) (d : Nat) (ts : TS) (l0 : Int) (l1 : Int) (l3 : Int) (hl1 : R64 l1) (hl3 : R32 l3) : SF g yX3_fieldOf (Cond.code yX3_fieldOf cX3_fieldOf 4 (Option.some Jvm.ClassFile.FieldType.long)) (Option.some Jvm.ClassFile.FieldType.long) (d + 0) [vA g l0, vJ l1, vI l3] (fun h => (h, ts)) (c_X3_fieldOf l0 l1 l3) := by
  refine SF.of (lv := [(0, vA g l0), (1, vJ l1), (3, vI l3)]) (by decide) (wt_A (wt_J (wt_I wt_0))) rfl (by simp only [la_A, la_I, la_J, la_0]) (fun Γ hg hnm o => ?_)
  subst hg
  have o : Ok Γ "LazyForge$Machine" cX3_fieldOf 4 (Option.some Jvm.ClassFile.FieldType.long) (d + 0) := o
  unfold c_X3_fieldOf
  refine s_aload_n o dX3_fieldOf_0 rfl 0 rfl ?_
  refine r_getf (vA (mg Γ)) rfl o cf_X3_cells (Or.inl (lw_all_tbl q333)) dX3_fieldOf_1 (fun v1 hv1 => ?_)
  refine s_lload_n o dX3_fieldOf_4 rfl 1 rfl ?_
  refine s_l2i o dX3_fieldOf_5 ?_
  refine s_iconst o dX3_fieldOf_6 ?_
  refine s_iadd o dX3_fieldOf_7 ?_
  refine s_iload_n o dX3_fieldOf_8 rfl 2 rfl ?_
  refine s_iadd o dX3_fieldOf_9 ?_
  refine r_lald o (w32_R _) dX3_fieldOf_10 (fun v2 hv2 => ?_)
  exact s_lret o rfl hv2 dX3_fieldOf_11 (fun _ hh => hh)
theorem dX3_whole_0 : decode cX3_whole 0 = .ok (.aload_n 0, 1) := by decide +kernel
theorem dX3_whole_1 : decode cX3_whole 1 = .ok (.getfield 65, 3) := by decide +kernel
theorem dX3_whole_4 : decode cX3_whole 4 = .ok (.aload_n 1, 1) := by decide +kernel
theorem dX3_whole_5 : decode cX3_whole 5 = .ok (.getfield 128, 3) := by decide +kernel
theorem dX3_whole_8 : decode cX3_whole 8 = .ok (.laload, 1) := by decide +kernel
theorem dX3_whole_9 : decode cX3_whole 9 = .ok (.lreturn, 1) := by decide +kernel
theorem mw_X3_whole : MW yX3_whole (Cond.code yX3_whole cX3_whole 2 (Option.some Jvm.ClassFile.FieldType.long)) cX3_whole 2 (Option.some Jvm.ClassFile.FieldType.long) 1 := ⟨rfl, ⟨(lw_all_tbl q2315), rfl, (lw_all_tbl q165)⟩, rfl, ⟨by decide, by decide⟩, by decide +kernel⟩
noncomputable def c_X3_whole (l0 : Int) (l1 : Int) : Mo CH Int :=
  bnd (gf [103] 19 l0) fun v1 =>
  bnd (gf [116] 0 l1) fun v2 =>
  bnd (ald 1 v1 v2) fun v3 =>
  pr v3
theorem sc_X3_whole (g : gC) (d : Nat) (ts : TS) (l0 : Int) (l1 : Int) : SF g yX3_whole (Cond.code yX3_whole cX3_whole 2 (Option.some Jvm.ClassFile.FieldType.long)) (Option.some Jvm.ClassFile.FieldType.long) (d + 0) [vA g l0, vA g l1] (fun h => (h, ts)) (c_X3_whole l0 l1) := by
  refine SF.of (lv := [(0, vA g l0), (1, vA g l1)]) (by decide) (wt_A (wt_A wt_0)) rfl (by simp only [la_A, la_I, la_J, la_0]) (fun Γ hg hnm o => ?_)
  subst hg
  have o : Ok Γ "LazyForge$Machine" cX3_whole 2 (Option.some Jvm.ClassFile.FieldType.long) (d + 0) := o
  unfold c_X3_whole
  refine s_aload_n o dX3_whole_0 rfl 0 rfl ?_
  refine r_getf (vA (mg Γ)) rfl o cf_X3_wholes (Or.inl (lw_all_tbl q350)) dX3_whole_1 (fun v1 hv1 => ?_)
  refine s_aload_n o dX3_whole_4 rfl 1 rfl ?_
  refine r_getf vI rfl o cf_X16_number (Or.inr (Or.inl ⟨_, q1147⟩)) dX3_whole_5 (fun v2 hv2 => ?_)
  refine r_lald o hv2 dX3_whole_8 (fun v3 hv3 => ?_)
  exact s_lret o rfl hv3 dX3_whole_9 (fun _ hh => hh)
theorem dX3_object_0 : decode cX3_object 0 = .ok (.aload_n 0, 1) := by decide +kernel
theorem dX3_object_1 : decode cX3_object 1 = .ok (.iconst 1, 1) := by decide +kernel
theorem dX3_object_2 : decode cX3_object 2 = .ok (.iload_n 2, 1) := by decide +kernel
theorem dX3_object_3 : decode cX3_object 3 = .ok (.iadd, 1) := by decide +kernel
theorem dX3_object_4 : decode cX3_object 4 = .ok (.invokevirtual 114, 3) := by decide +kernel
theorem dX3_object_7 : decode cX3_object 7 = .ok (.istore_n 3, 1) := by decide +kernel
theorem dX3_object_8 : decode cX3_object 8 = .ok (.iload_n 3, 1) := by decide +kernel
theorem dX3_object_9 : decode cX3_object 9 = .ok (.ifCond .ge 7, 3) := by decide +kernel
theorem dX3_object_12 : decode cX3_object 12 = .ok (.ldc2_w 118, 3) := by decide +kernel
theorem dX3_object_15 : decode cX3_object 15 = .ok (.lreturn, 1) := by decide +kernel
theorem dX3_object_16 : decode cX3_object 16 = .ok (.aload_n 0, 1) := by decide +kernel
theorem dX3_object_17 : decode cX3_object 17 = .ok (.dup, 1) := by decide +kernel
theorem dX3_object_18 : decode cX3_object 18 = .ok (.getfield 120, 3) := by decide +kernel
theorem dX3_object_21 : decode cX3_object 21 = .ok (.iconst 1, 1) := by decide +kernel
theorem dX3_object_22 : decode cX3_object 22 = .ok (.iadd, 1) := by decide +kernel
theorem dX3_object_23 : decode cX3_object 23 = .ok (.putfield 120, 3) := by decide +kernel
theorem dX3_object_26 : decode cX3_object 26 = .ok (.aload_n 0, 1) := by decide +kernel
theorem dX3_object_27 : decode cX3_object 27 = .ok (.getfield 42, 3) := by decide +kernel
theorem dX3_object_30 : decode cX3_object 30 = .ok (.iload_n 3, 1) := by decide +kernel
theorem dX3_object_31 : decode cX3_object 31 = .ok (.iload_n 1, 1) := by decide +kernel
theorem dX3_object_32 : decode cX3_object 32 = .ok (.i2l, 1) := by decide +kernel
theorem dX3_object_33 : decode cX3_object 33 = .ok (.lastore, 1) := by decide +kernel
theorem dX3_object_34 : decode cX3_object 34 = .ok (.ldc2_w 123, 3) := by decide +kernel
theorem dX3_object_37 : decode cX3_object 37 = .ok (.iload_n 3, 1) := by decide +kernel
theorem dX3_object_38 : decode cX3_object 38 = .ok (.i2l, 1) := by decide +kernel
theorem dX3_object_39 : decode cX3_object 39 = .ok (.lor, 1) := by decide +kernel
theorem dX3_object_40 : decode cX3_object 40 = .ok (.lreturn, 1) := by decide +kernel
theorem mw_X3_object : MW yX3_object (Cond.code yX3_object cX3_object 4 (Option.some Jvm.ClassFile.FieldType.long)) cX3_object 4 (Option.some Jvm.ClassFile.FieldType.long) 2 := ⟨rfl, ⟨(lw_all_tbl q2302), rfl, (lw_all_tbl q165)⟩, rfl, ⟨by decide, by decide⟩, by decide +kernel⟩
noncomputable def c_X3_object (l0 : Int) (l1 : Int) (l2 : Int) : Mo CH Int :=
  bnd (isk 103 l0) fun _ =>
  bnd (c_X3_make l0 (w32 (1 + l2))) fun v1 =>
  if 0 ≤ v1 then
    bnd (gf [103] 28 l0) fun v2 =>
    bnd (pf [103] 28 l0 (w32 (v2 + 1))) fun _ =>
    bnd (gf [103] 5 l0) fun v3 =>
    bnd (ast 1 v3 v1 l1) fun _ =>
    pr (lor 12884901888 v1)
  else
    pr (-1)
theorem sc_X3_object (g : gC) (d : Nat) (ts : TS) (l0 : Int) (l1 : Int) (l2 : Int) (hl1 : R32 l1) (hl2 : R32 l2) : SF g yX3_object (Cond.code yX3_object cX3_object 4 (Option.some Jvm.ClassFile.FieldType.long)) (Option.some Jvm.ClassFile.FieldType.long) (d + 2) [vA g l0, vI l1, vI l2] (fun h => (h, ts)) (c_X3_object l0 l1 l2) := by
  refine SF.of (lv := [(0, vA g l0), (1, vI l1), (2, vI l2)]) (by decide) (wt_A (wt_I (wt_I wt_0))) rfl (by simp only [la_A, la_I, la_J, la_0]) (fun Γ hg hnm o => ?_)
  subst hg
  have o : Ok Γ "LazyForge$Machine" cX3_object 4 (Option.some Jvm.ClassFile.FieldType.long) (d + 2) := o
  unfold c_X3_object
  refine s_aload_n o dX3_object_0 rfl 0 rfl ?_
  refine s_iconst o dX3_object_1 ?_
  refine s_iload_n o dX3_object_2 rfl 2 rfl ?_
  refine s_iadd o dX3_object_3 ?_
  refine s_cvC (d := d + 1) (As := [vI (w32 (1 + l2))]) (st := []) (c := 3) o (sc_X3_make (mg Γ) d ts l0 (w32 (1 + l2)) (w32_R _)) mw_X3_make rfl (Or.inl (lw_all_tbl q2163)) rfl (lw_all_tbl qs49) (lw_all_tbl q2165) wt_0 rfl dX3_object_4 rfl (rs := fun r => [vI r]) (fun _ => rfl) (fun v1 hv1 => ?_)
  refine r_istore_n o dX3_object_7 rfl rfl ⟨(Nat.ne_of_beq_eq_false rfl), (fun _ => (vA_cat (mg Γ) l0)), ⟨(Nat.ne_of_beq_eq_false rfl), (fun _ => rfl), ⟨(Nat.ne_of_beq_eq_false rfl), (fun _ => rfl), trivial⟩⟩⟩ ?_
  refine s_iload_n o dX3_object_8 rfl 0 rfl ?_
  refine s_if_ge (tgt := 16) o dX3_object_9 (by decide) (hv1 _ rfl) ?_ ?_
  · refine s_aload_n o dX3_object_16 rfl 1 rfl ?_
    refine s_dup o dX3_object_17 (vA_cat (mg Γ) l0) ?_
    refine r_getf vI rfl o cf_X3_objects (Or.inl (lw_all_tbl q367)) dX3_object_18 (fun v2 hv2 => ?_)
    refine s_iconst o dX3_object_21 ?_
    refine s_iadd o dX3_object_22 ?_
    refine r_putf vI rfl o cf_X3_objects (Or.inl (lw_all_tbl q367)) dX3_object_23 (Or.inl rfl) (w32_R _) ty_int ?_
    refine s_aload_n o dX3_object_26 rfl 1 rfl ?_
    refine r_getf (vA (mg Γ)) rfl o cf_X3_cells (Or.inl (lw_all_tbl q333)) dX3_object_27 (fun v3 hv3 => ?_)
    refine s_iload_n o dX3_object_30 rfl 0 rfl ?_
    refine s_iload_n o dX3_object_31 rfl 2 rfl ?_
    refine s_i2l o dX3_object_32 hl1 ?_
    refine r_last o (hv1 _ rfl) (rL hl1) dX3_object_33 ?_
    refine s_ldc2 (n := 12884901888) o dX3_object_34 (lw_all_tbl q2303) rfl ?_
    refine s_iload_n o dX3_object_37 rfl 0 rfl ?_
    refine s_i2l o dX3_object_38 (hv1 _ rfl) ?_
    refine s_lor o dX3_object_39 ?_
    exact s_lret o rfl (lor_R _ _) dX3_object_40 (fun _ hh => hh)
  · refine s_ldc2 (n := -1) o dX3_object_12 (lw_all_tbl q2171) rfl ?_
    exact s_lret o rfl (r64 rfl) dX3_object_15 (fun _ hh => hh)
theorem dX3_local_0 : decode cX3_local 0 = .ok (.aload_n 0, 1) := by decide +kernel
theorem dX3_local_1 : decode cX3_local 1 = .ok (.getfield 59, 3) := by decide +kernel
theorem dX3_local_4 : decode cX3_local 4 = .ok (.aload_n 0, 1) := by decide +kernel
theorem dX3_local_5 : decode cX3_local 5 = .ok (.getfield 98, 3) := by decide +kernel
theorem dX3_local_8 : decode cX3_local 8 = .ok (.iload_n 1, 1) := by decide +kernel
theorem dX3_local_9 : decode cX3_local 9 = .ok (.iadd, 1) := by decide +kernel
theorem dX3_local_10 : decode cX3_local 10 = .ok (.laload, 1) := by decide +kernel
theorem dX3_local_11 : decode cX3_local 11 = .ok (.lreturn, 1) := by decide +kernel
theorem mw_X3_local : MW yX3_local (Cond.code yX3_local cX3_local 2 (Option.some Jvm.ClassFile.FieldType.long)) cX3_local 2 (Option.some Jvm.ClassFile.FieldType.long) 1 := ⟨rfl, ⟨(lw_all_tbl q2268), rfl, (lw_all_tbl q165)⟩, rfl, ⟨by decide, by decide⟩, by decide +kernel⟩
noncomputable def c_X3_local (l0 : Int) (l1 : Int) : Mo CH Int :=
  bnd (gf [103] 11 l0) fun v1 =>
  bnd (gf [103] 12 l0) fun v2 =>
  bnd (ald 1 v1 (w32 (v2 + l1))) fun v3 =>
  pr v3
theorem sc_X3_local (g : gC) (d : Nat) (ts : TS) (l0 : Int) (l1 : Int) (hl1 : R32 l1) : SF g yX3_local (Cond.code yX3_local cX3_local 2 (Option.some Jvm.ClassFile.FieldType.long)) (Option.some Jvm.ClassFile.FieldType.long) (d + 0) [vA g l0, vI l1] (fun h => (h, ts)) (c_X3_local l0 l1) := by
  refine SF.of (lv := [(0, vA g l0), (1, vI l1)]) (by decide) (wt_A (wt_I wt_0)) rfl (by simp only [la_A, la_I, la_J, la_0]) (fun Γ hg hnm o => ?_)
  subst hg
  have o : Ok Γ "LazyForge$Machine" cX3_local 2 (Option.some Jvm.ClassFile.FieldType.long) (d + 0) := o
  unfold c_X3_local
  refine s_aload_n o dX3_local_0 rfl 0 rfl ?_
  refine r_getf (vA (mg Γ)) rfl o cf_X3_slots (Or.inl (lw_all_tbl q340)) dX3_local_1 (fun v1 hv1 => ?_)
  refine s_aload_n o dX3_local_4 rfl 0 rfl ?_
  refine r_getf vI rfl o cf_X3_base (Or.inl (lw_all_tbl q341)) dX3_local_5 (fun v2 hv2 => ?_)
  refine s_iload_n o dX3_local_8 rfl 1 rfl ?_
  refine s_iadd o dX3_local_9 ?_
  refine r_lald o (w32_R _) dX3_local_10 (fun v3 hv3 => ?_)
  exact s_lret o rfl hv3 dX3_local_11 (fun _ hh => hh)
theorem dX3_capture_0 : decode cX3_capture 0 = .ok (.lload_n 2, 1) := by decide +kernel
theorem dX3_capture_1 : decode cX3_capture 1 = .ok (.l2i, 1) := by decide +kernel
theorem dX3_capture_2 : decode cX3_capture 2 = .ok (.istore 4, 2) := by decide +kernel
theorem dX3_capture_4 : decode cX3_capture 4 = .ok (.iconst 0, 1) := by decide +kernel
theorem dX3_capture_5 : decode cX3_capture 5 = .ok (.istore 5, 2) := by decide +kernel
theorem dX3_capture_7 : decode cX3_capture 7 = .ok (.iload 5, 2) := by decide +kernel
theorem dX3_capture_9 : decode cX3_capture 9 = .ok (.aload_n 1, 1) := by decide +kernel
theorem dX3_capture_10 : decode cX3_capture 10 = .ok (.getfield 135, 3) := by decide +kernel
theorem dX3_capture_13 : decode cX3_capture 13 = .ok (.arraylength, 1) := by decide +kernel
theorem dX3_capture_14 : decode cX3_capture 14 = .ok (.if_icmp .ge 32, 3) := by decide +kernel
theorem dX3_capture_17 : decode cX3_capture 17 = .ok (.aload_n 0, 1) := by decide +kernel
theorem dX3_capture_18 : decode cX3_capture 18 = .ok (.getfield 42, 3) := by decide +kernel
theorem dX3_capture_21 : decode cX3_capture 21 = .ok (.iload 4, 2) := by decide +kernel
theorem dX3_capture_23 : decode cX3_capture 23 = .ok (.iconst 1, 1) := by decide +kernel
theorem dX3_capture_24 : decode cX3_capture 24 = .ok (.iadd, 1) := by decide +kernel
theorem dX3_capture_25 : decode cX3_capture 25 = .ok (.iload 5, 2) := by decide +kernel
theorem dX3_capture_27 : decode cX3_capture 27 = .ok (.iadd, 1) := by decide +kernel
theorem dX3_capture_28 : decode cX3_capture 28 = .ok (.aload_n 0, 1) := by decide +kernel
theorem dX3_capture_29 : decode cX3_capture 29 = .ok (.aload_n 1, 1) := by decide +kernel
theorem dX3_capture_30 : decode cX3_capture 30 = .ok (.getfield 135, 3) := by decide +kernel
theorem dX3_capture_33 : decode cX3_capture 33 = .ok (.iload 5, 2) := by decide +kernel
theorem dX3_capture_35 : decode cX3_capture 35 = .ok (.iaload, 1) := by decide +kernel
theorem dX3_capture_36 : decode cX3_capture 36 = .ok (.invokevirtual 146, 3) := by decide +kernel
theorem dX3_capture_39 : decode cX3_capture 39 = .ok (.lastore, 1) := by decide +kernel
theorem dX3_capture_40 : decode cX3_capture 40 = .ok (.iinc 5 1, 3) := by decide +kernel
theorem dX3_capture_43 : decode cX3_capture 43 = .ok (.goto (-36), 3) := by decide +kernel
theorem dX3_capture_46 : decode cX3_capture 46 = .ok (.return_, 1) := by decide +kernel
theorem mw_X3_capture : MW yX3_capture (Cond.code yX3_capture cX3_capture 6 (Option.none : Option Jvm.ClassFile.FieldType)) cX3_capture 6 (Option.none : Option Jvm.ClassFile.FieldType) 2 := ⟨rfl, ⟨(lw_all_tbl q2264), rfl, (lw_all_tbl q165)⟩, rfl, ⟨by decide, by decide⟩, by decide +kernel⟩
abbrev okc_X3_capture_7 (x : Int × Int × Int × Int) : Prop := R32 x.2.2.1 ∧ R32 x.2.2.2
abbrev lvc_X3_capture_7 (Γ : Gm) (x : Int × Int × Int × Int) : List (Nat × Value) := [(0, vA (mg Γ) x.1), (1, vA (mg Γ) x.2.1), (4, vI x.2.2.1), (5, vI x.2.2.2)]
noncomputable def c_X3_capture_7b {A : Type} (k_46 : Mo CH A) (l0 : Int) (l1 : Int) (l4 : Int) (l5 : Int) : Mo CH ((Int × Int × Int × Int) ⊕ A) :=
  bnd (gf [106, 107, 108, 109, 110, 118, 119, 120, 121, 122, 123, 124, 125, 126] 3 l1) fun v1 =>
  bnd (aln v1) fun v2 =>
  if v2 ≤ l5 then
    lo k_46
  else
    bnd (gf [103] 5 l0) fun v3 =>
    bnd (gf [106, 107, 108, 109, 110, 118, 119, 120, 121, 122, 123, 124, 125, 126] 3 l1) fun v4 =>
    bnd (ald 0 v4 l5) fun v5 =>
    bnd (isk 103 l0) fun _ =>
    bnd (c_X3_local l0 v5) fun v6 =>
    bnd (ast 1 v3 (w32 ((w32 (l4 + 1)) + l5)) v6) fun _ =>
    pr (.inl (l0, l1, l4, (w32 (l5 + 1))))
theorem sc_X3_capture_7b {Γ : Gm} {ts : TS} {d : Nat} (o : Ok Γ "LazyForge$Machine" cX3_capture 6 (Option.none : Option Jvm.ClassFile.FieldType) (d + 1)) {A : Type} {K : A → CH → Prop} (k_46 : Mo CH A) (hk_46 : Sx Γ (fun h => (h, ts)) K 46 [] [] (k_46)) (l0 : Int) (l1 : Int) (l4 : Int) (l5 : Int) (hl4 : R32 l4) (hl5 : R32 l5) : Sx Γ (fun h => (h, ts)) (KL Γ (fun h => (h, ts)) okc_X3_capture_7 K 7 (lvc_X3_capture_7 Γ) []) 7 [(0, vA (mg Γ) l0), (1, vA (mg Γ) l1), (4, vI l4), (5, vI l5)] [] (c_X3_capture_7b k_46 l0 l1 l4 l5) := by
  unfold c_X3_capture_7b
  refine s_iload o dX3_capture_7 3 rfl ?_
  refine s_aload_n o dX3_capture_9 rfl 1 rfl ?_
  refine r_getf (vA (mg Γ)) rfl o cf_X4_captured (Or.inr (Or.inl ⟨_, q264⟩)) dX3_capture_10 (fun v1 hv1 => ?_)
  refine s_alen o dX3_capture_13 (fun v2 hv2 => ?_)
  refine s_icmp_ge (tgt := 46) o dX3_capture_14 (by decide) hl5 (rN hv2) ?_ ?_
  · refine r_to [] [] rfl ?_
    exact s_lo hk_46
  · refine s_aload_n o dX3_capture_17 rfl 0 rfl ?_
    refine r_getf (vA (mg Γ)) rfl o cf_X3_cells (Or.inl (lw_all_tbl q333)) dX3_capture_18 (fun v3 hv3 => ?_)
    refine s_iload o dX3_capture_21 2 rfl ?_
    refine s_iconst o dX3_capture_23 ?_
    refine s_iadd o dX3_capture_24 ?_
    refine s_iload o dX3_capture_25 3 rfl ?_
    refine s_iadd o dX3_capture_27 ?_
    refine s_aload_n o dX3_capture_28 rfl 0 rfl ?_
    refine s_aload_n o dX3_capture_29 rfl 1 rfl ?_
    refine r_getf (vA (mg Γ)) rfl o cf_X4_captured (Or.inr (Or.inl ⟨_, q264⟩)) dX3_capture_30 (fun v4 hv4 => ?_)
    refine s_iload o dX3_capture_33 3 rfl ?_
    refine r_iald o hl5 dX3_capture_35 (fun v5 hv5 => ?_)
    refine s_cvC (d := d + 0) (As := [vI v5]) (st := [vI (w32 ((w32 (l4 + 1)) + l5)), vA (mg Γ) v3]) (c := 3) o (sc_X3_local (mg Γ) d ts l0 v5 hv5) mw_X3_local rfl (Or.inl (lw_all_tbl q2265)) rfl (lw_all_tbl q2267) (lw_all_tbl q2266) (wt_I (wt_A wt_0)) rfl dX3_capture_36 rfl (rs := fun r => [vJ r, vI (w32 ((w32 (l4 + 1)) + l5)), vA (mg Γ) v3]) (fun _ => rfl) (fun v6 hv6 => ?_)
    refine r_last o (w32_R _) (hv6 _ rfl) dX3_capture_39 ?_
    refine r_iinc (j := 3) o dX3_capture_40 rfl rfl [(0, vA (mg Γ) l0), (1, vA (mg Γ) l1), (4, vI l4)] [0, 1, 2] rfl ⟨(Nat.ne_of_beq_eq_false rfl), (fun _ => (vA_cat (mg Γ) l0)), ⟨(Nat.ne_of_beq_eq_false rfl), (fun _ => (vA_cat (mg Γ) l1)), ⟨(Nat.ne_of_beq_eq_false rfl), (fun _ => rfl), trivial⟩⟩⟩ ?_
    refine s_goto (tgt := 7) o dX3_capture_43 (by decide) ?_
    refine r_to [(0, vA (mg Γ) l0), (1, vA (mg Γ) l1), (4, vI l4), (5, vI (w32 (l5 + 1)))] [1, 2, 3, 0] rfl ?_
    exact s_back (⟨hl4, (w32_R _)⟩) rfl
noncomputable def c_X3_capture_7 {A : Type} (k_46 : Mo CH A) (l0 : Int) (l1 : Int) (l4 : Int) (l5 : Int) : Mo CH A := Loop (fun x => c_X3_capture_7b k_46 x.1 x.2.1 x.2.2.1 x.2.2.2) (l0, l1, l4, l5)
theorem sc_X3_capture_7 {Γ : Gm} {ts : TS} {d : Nat} (o : Ok Γ "LazyForge$Machine" cX3_capture 6 (Option.none : Option Jvm.ClassFile.FieldType) (d + 1)) {A : Type} {K : A → CH → Prop} (k_46 : Mo CH A) (hk_46 : Sx Γ (fun h => (h, ts)) K 46 [] [] (k_46)) (l0 : Int) (l1 : Int) (l4 : Int) (l5 : Int) (hl4 : R32 l4) (hl5 : R32 l5) : Sx Γ (fun h => (h, ts)) K 7 [(0, vA (mg Γ) l0), (1, vA (mg Γ) l1), (4, vI l4), (5, vI l5)] [] (c_X3_capture_7 k_46 l0 l1 l4 l5) :=
  s_loop okc_X3_capture_7 (lvc_X3_capture_7 Γ) (fun x hx => sc_X3_capture_7b o k_46 hk_46 x.1 x.2.1 x.2.2.1 x.2.2.2 hx.1 hx.2) (x := (l0, l1, l4, l5)) ⟨hl4, hl5⟩
noncomputable def c_X3_capture (l0 : Int) (l1 : Int) (l2 : Int) : Mo CH Int :=
  c_X3_capture_7
    (pr 0) l0 l1 (l2i l2) 0
theorem sc_X3_capture (g : gC) (d : Nat) (ts : TS) (l0 : Int) (l1 : Int) (l2 : Int) (hl2 : R64 l2) : SF g yX3_capture (Cond.code yX3_capture cX3_capture 6 (Option.none : Option Jvm.ClassFile.FieldType)) (Option.none : Option Jvm.ClassFile.FieldType) (d + 1) [vA g l0, vA g l1, vJ l2] (fun h => (h, ts)) (c_X3_capture l0 l1 l2) := by
  refine SF.of (lv := [(0, vA g l0), (1, vA g l1), (2, vJ l2)]) (by decide) (wt_A (wt_A (wt_J wt_0))) rfl (by simp only [la_A, la_I, la_J, la_0]) (fun Γ hg hnm o => ?_)
  subst hg
  have o : Ok Γ "LazyForge$Machine" cX3_capture 6 (Option.none : Option Jvm.ClassFile.FieldType) (d + 1) := o
  unfold c_X3_capture
  refine s_lload_n o dX3_capture_0 rfl 2 rfl ?_
  refine s_l2i o dX3_capture_1 ?_
  refine r_istore o dX3_capture_2 rfl ⟨(Nat.ne_of_beq_eq_false rfl), (fun _ => (vA_cat (mg Γ) l0)), ⟨(Nat.ne_of_beq_eq_false rfl), (fun _ => (vA_cat (mg Γ) l1)), ⟨(Nat.ne_of_beq_eq_false rfl), (fun e => absurd e (Nat.ne_of_beq_eq_false rfl)), trivial⟩⟩⟩ ?_
  refine s_iconst o dX3_capture_4 ?_
  refine r_istore o dX3_capture_5 rfl ⟨(Nat.ne_of_beq_eq_false rfl), (fun _ => rfl), ⟨(Nat.ne_of_beq_eq_false rfl), (fun _ => (vA_cat (mg Γ) l0)), ⟨(Nat.ne_of_beq_eq_false rfl), (fun _ => (vA_cat (mg Γ) l1)), ⟨(Nat.ne_of_beq_eq_false rfl), (fun e => absurd e (Nat.ne_of_beq_eq_false rfl)), trivial⟩⟩⟩⟩ ?_
  refine r_to [(0, vA (mg Γ) l0), (1, vA (mg Γ) l1), (4, vI (l2i l2)), (5, vI 0)] [2, 3, 1, 0] rfl ?_
  refine sc_X3_capture_7 o _ ?_ l0 l1 (l2i l2) 0 (l2i_R _) (r32 rfl)
  · exact s_vret o rfl dX3_capture_46 (fun _ hh => hh)
theorem dX3_reserve_0 : decode cX3_reserve 0 = .ok (.aload_n 0, 1) := by decide +kernel
theorem dX3_reserve_1 : decode cX3_reserve 1 = .ok (.iconst 1, 1) := by decide +kernel
theorem dX3_reserve_2 : decode cX3_reserve 2 = .ok (.aload_n 1, 1) := by decide +kernel
theorem dX3_reserve_3 : decode cX3_reserve 3 = .ok (.getfield 135, 3) := by decide +kernel
theorem dX3_reserve_6 : decode cX3_reserve 6 = .ok (.arraylength, 1) := by decide +kernel
theorem dX3_reserve_7 : decode cX3_reserve 7 = .ok (.iadd, 1) := by decide +kernel
theorem dX3_reserve_8 : decode cX3_reserve 8 = .ok (.invokevirtual 114, 3) := by decide +kernel
theorem dX3_reserve_11 : decode cX3_reserve 11 = .ok (.istore_n 2, 1) := by decide +kernel
theorem dX3_reserve_12 : decode cX3_reserve 12 = .ok (.iload_n 2, 1) := by decide +kernel
theorem dX3_reserve_13 : decode cX3_reserve 13 = .ok (.ifCond .ge 7, 3) := by decide +kernel
theorem dX3_reserve_16 : decode cX3_reserve 16 = .ok (.ldc2_w 118, 3) := by decide +kernel
theorem dX3_reserve_19 : decode cX3_reserve 19 = .ok (.lreturn, 1) := by decide +kernel
theorem dX3_reserve_20 : decode cX3_reserve 20 = .ok (.aload_n 0, 1) := by decide +kernel
theorem dX3_reserve_21 : decode cX3_reserve 21 = .ok (.dup, 1) := by decide +kernel
theorem dX3_reserve_22 : decode cX3_reserve 22 = .ok (.getfield 138, 3) := by decide +kernel
theorem dX3_reserve_25 : decode cX3_reserve 25 = .ok (.iconst 1, 1) := by decide +kernel
theorem dX3_reserve_26 : decode cX3_reserve 26 = .ok (.iadd, 1) := by decide +kernel
theorem dX3_reserve_27 : decode cX3_reserve 27 = .ok (.putfield 138, 3) := by decide +kernel
theorem dX3_reserve_30 : decode cX3_reserve 30 = .ok (.aload_n 0, 1) := by decide +kernel
theorem dX3_reserve_31 : decode cX3_reserve 31 = .ok (.getfield 42, 3) := by decide +kernel
theorem dX3_reserve_34 : decode cX3_reserve 34 = .ok (.iload_n 2, 1) := by decide +kernel
theorem dX3_reserve_35 : decode cX3_reserve 35 = .ok (.ldc2_w 141, 3) := by decide +kernel
theorem dX3_reserve_38 : decode cX3_reserve 38 = .ok (.aload_n 1, 1) := by decide +kernel
theorem dX3_reserve_39 : decode cX3_reserve 39 = .ok (.getfield 143, 3) := by decide +kernel
theorem dX3_reserve_42 : decode cX3_reserve 42 = .ok (.i2l, 1) := by decide +kernel
theorem dX3_reserve_43 : decode cX3_reserve 43 = .ok (.lor, 1) := by decide +kernel
theorem dX3_reserve_44 : decode cX3_reserve 44 = .ok (.lastore, 1) := by decide +kernel
theorem dX3_reserve_45 : decode cX3_reserve 45 = .ok (.ldc2_w 144, 3) := by decide +kernel
theorem dX3_reserve_48 : decode cX3_reserve 48 = .ok (.iload_n 2, 1) := by decide +kernel
theorem dX3_reserve_49 : decode cX3_reserve 49 = .ok (.i2l, 1) := by decide +kernel
theorem dX3_reserve_50 : decode cX3_reserve 50 = .ok (.lor, 1) := by decide +kernel
theorem dX3_reserve_51 : decode cX3_reserve 51 = .ok (.lreturn, 1) := by decide +kernel
theorem mw_X3_reserve : MW yX3_reserve (Cond.code yX3_reserve cX3_reserve 3 (Option.some Jvm.ClassFile.FieldType.long)) cX3_reserve 3 (Option.some Jvm.ClassFile.FieldType.long) 1 := ⟨rfl, ⟨(lw_all_tbl q2162), rfl, (lw_all_tbl q165)⟩, rfl, ⟨by decide, by decide⟩, by decide +kernel⟩
noncomputable def c_X3_reserve (l0 : Int) (l1 : Int) : Mo CH Int :=
  bnd (gf [106, 107, 108, 109, 110, 118, 119, 120, 121, 122, 123, 124, 125, 126] 3 l1) fun v1 =>
  bnd (aln v1) fun v2 =>
  bnd (isk 103 l0) fun _ =>
  bnd (c_X3_make l0 (w32 (1 + v2))) fun v3 =>
  if 0 ≤ v3 then
    bnd (gf [103] 26 l0) fun v4 =>
    bnd (pf [103] 26 l0 (w32 (v4 + 1))) fun _ =>
    bnd (gf [103] 5 l0) fun v5 =>
    bnd (gf [106, 107, 108, 109, 110, 118, 119, 120, 121, 122, 123, 124, 125, 126] 2 l1) fun v6 =>
    bnd (ast 1 v5 v3 (lor 34359738368 v6)) fun _ =>
    pr (lor 21474836480 v3)
  else
    pr (-1)
theorem sc_X3_reserve (g : gC) (d : Nat) (ts : TS) (l0 : Int) (l1 : Int) : SF g yX3_reserve (Cond.code yX3_reserve cX3_reserve 3 (Option.some Jvm.ClassFile.FieldType.long)) (Option.some Jvm.ClassFile.FieldType.long) (d + 2) [vA g l0, vA g l1] (fun h => (h, ts)) (c_X3_reserve l0 l1) := by
  refine SF.of (lv := [(0, vA g l0), (1, vA g l1)]) (by decide) (wt_A (wt_A wt_0)) rfl (by simp only [la_A, la_I, la_J, la_0]) (fun Γ hg hnm o => ?_)
  subst hg
  have o : Ok Γ "LazyForge$Machine" cX3_reserve 3 (Option.some Jvm.ClassFile.FieldType.long) (d + 2) := o
  unfold c_X3_reserve
  refine s_aload_n o dX3_reserve_0 rfl 0 rfl ?_
  refine s_iconst o dX3_reserve_1 ?_
  refine s_aload_n o dX3_reserve_2 rfl 1 rfl ?_
  refine r_getf (vA (mg Γ)) rfl o cf_X4_captured (Or.inr (Or.inl ⟨_, q264⟩)) dX3_reserve_3 (fun v1 hv1 => ?_)
  refine s_alen o dX3_reserve_6 (fun v2 hv2 => ?_)
  refine s_iadd o dX3_reserve_7 ?_
  refine s_cvC (d := d + 1) (As := [vI (w32 (1 + v2))]) (st := []) (c := 3) o (sc_X3_make (mg Γ) d ts l0 (w32 (1 + v2)) (w32_R _)) mw_X3_make rfl (Or.inl (lw_all_tbl q2163)) rfl (lw_all_tbl qs49) (lw_all_tbl q2165) wt_0 rfl dX3_reserve_8 rfl (rs := fun r => [vI r]) (fun _ => rfl) (fun v3 hv3 => ?_)
  refine r_istore_n o dX3_reserve_11 rfl rfl ⟨(Nat.ne_of_beq_eq_false rfl), (fun _ => (vA_cat (mg Γ) l0)), ⟨(Nat.ne_of_beq_eq_false rfl), (fun _ => (vA_cat (mg Γ) l1)), trivial⟩⟩ ?_
  refine s_iload_n o dX3_reserve_12 rfl 0 rfl ?_
  refine s_if_ge (tgt := 20) o dX3_reserve_13 (by decide) (hv3 _ rfl) ?_ ?_
  · refine s_aload_n o dX3_reserve_20 rfl 1 rfl ?_
    refine s_dup o dX3_reserve_21 (vA_cat (mg Γ) l0) ?_
    refine r_getf vI rfl o cf_X3_suspensions (Or.inl (lw_all_tbl q363)) dX3_reserve_22 (fun v4 hv4 => ?_)
    refine s_iconst o dX3_reserve_25 ?_
    refine s_iadd o dX3_reserve_26 ?_
    refine r_putf vI rfl o cf_X3_suspensions (Or.inl (lw_all_tbl q363)) dX3_reserve_27 (Or.inl rfl) (w32_R _) ty_int ?_
    refine s_aload_n o dX3_reserve_30 rfl 1 rfl ?_
    refine r_getf (vA (mg Γ)) rfl o cf_X3_cells (Or.inl (lw_all_tbl q333)) dX3_reserve_31 (fun v5 hv5 => ?_)
    refine s_iload_n o dX3_reserve_34 rfl 0 rfl ?_
    refine s_ldc2 (n := 34359738368) o dX3_reserve_35 (lw_all_tbl q2172) rfl ?_
    refine s_aload_n o dX3_reserve_38 rfl 2 rfl ?_
    refine r_getf vI rfl o cf_X4_number (Or.inr (Or.inl ⟨_, q262⟩)) dX3_reserve_39 (fun v6 hv6 => ?_)
    refine s_i2l o dX3_reserve_42 hv6 ?_
    refine s_lor o dX3_reserve_43 ?_
    refine r_last o (hv3 _ rfl) (lor_R _ _) dX3_reserve_44 ?_
    refine s_ldc2 (n := 21474836480) o dX3_reserve_45 (lw_all_tbl q2173) rfl ?_
    refine s_iload_n o dX3_reserve_48 rfl 0 rfl ?_
    refine s_i2l o dX3_reserve_49 (hv3 _ rfl) ?_
    refine s_lor o dX3_reserve_50 ?_
    exact s_lret o rfl (lor_R _ _) dX3_reserve_51 (fun _ hh => hh)
  · refine s_ldc2 (n := -1) o dX3_reserve_16 (lw_all_tbl q2171) rfl ?_
    exact s_lret o rfl (r64 rfl) dX3_reserve_19 (fun _ hh => hh)
theorem dX3_suspend_0 : decode cX3_suspend 0 = .ok (.aload_n 0, 1) := by decide +kernel
theorem dX3_suspend_1 : decode cX3_suspend 1 = .ok (.aload_n 1, 1) := by decide +kernel
theorem dX3_suspend_2 : decode cX3_suspend 2 = .ok (.invokevirtual 150, 3) := by decide +kernel
theorem dX3_suspend_5 : decode cX3_suspend 5 = .ok (.lstore_n 2, 1) := by decide +kernel
theorem dX3_suspend_6 : decode cX3_suspend 6 = .ok (.lload_n 2, 1) := by decide +kernel
theorem dX3_suspend_7 : decode cX3_suspend 7 = .ok (.lconst 0, 1) := by decide +kernel
theorem dX3_suspend_8 : decode cX3_suspend 8 = .ok (.lcmp, 1) := by decide +kernel
theorem dX3_suspend_9 : decode cX3_suspend 9 = .ok (.ifCond .lt 9, 3) := by decide +kernel
theorem dX3_suspend_12 : decode cX3_suspend 12 = .ok (.aload_n 0, 1) := by decide +kernel
theorem dX3_suspend_13 : decode cX3_suspend 13 = .ok (.aload_n 1, 1) := by decide +kernel
theorem dX3_suspend_14 : decode cX3_suspend 14 = .ok (.lload_n 2, 1) := by decide +kernel
theorem dX3_suspend_15 : decode cX3_suspend 15 = .ok (.invokevirtual 154, 3) := by decide +kernel
theorem dX3_suspend_18 : decode cX3_suspend 18 = .ok (.lload_n 2, 1) := by decide +kernel
theorem dX3_suspend_19 : decode cX3_suspend 19 = .ok (.lreturn, 1) := by decide +kernel
theorem mw_X3_suspend : MW yX3_suspend (Cond.code yX3_suspend cX3_suspend 4 (Option.some Jvm.ClassFile.FieldType.long)) cX3_suspend 4 (Option.some Jvm.ClassFile.FieldType.long) 1 := ⟨rfl, ⟨(lw_all_tbl q2260), rfl, (lw_all_tbl q165)⟩, rfl, ⟨by decide, by decide⟩, by decide +kernel⟩
noncomputable def c_X3_suspend (l0 : Int) (l1 : Int) : Mo CH Int :=
  bnd (isk 103 l0) fun _ =>
  bnd (c_X3_reserve l0 l1) fun v1 =>
  if v1 < 0 then
    pr v1
  else
    bnd (isk 103 l0) fun _ =>
    bnd (c_X3_capture l0 l1 v1) fun _ =>
    pr v1
theorem sc_X3_suspend (g : gC) (d : Nat) (ts : TS) (l0 : Int) (l1 : Int) : SF g yX3_suspend (Cond.code yX3_suspend cX3_suspend 4 (Option.some Jvm.ClassFile.FieldType.long)) (Option.some Jvm.ClassFile.FieldType.long) (d + 3) [vA g l0, vA g l1] (fun h => (h, ts)) (c_X3_suspend l0 l1) := by
  refine SF.of (lv := [(0, vA g l0), (1, vA g l1)]) (by decide) (wt_A (wt_A wt_0)) rfl (by simp only [la_A, la_I, la_J, la_0]) (fun Γ hg hnm o => ?_)
  subst hg
  have o : Ok Γ "LazyForge$Machine" cX3_suspend 4 (Option.some Jvm.ClassFile.FieldType.long) (d + 3) := o
  unfold c_X3_suspend
  refine s_aload_n o dX3_suspend_0 rfl 0 rfl ?_
  refine s_aload_n o dX3_suspend_1 rfl 1 rfl ?_
  refine s_cvC (d := d + 2) (As := [vA (mg Γ) l1]) (st := []) (c := 3) o (sc_X3_reserve (mg Γ) d ts l0 l1) mw_X3_reserve rfl (Or.inl (lw_all_tbl q2159)) rfl (lw_all_tbl q2161) (lw_all_tbl q2160) wt_0 rfl dX3_suspend_2 rfl (rs := fun r => [vJ r]) (fun _ => rfl) (fun v1 hv1 => ?_)
  refine r_lstore_n o dX3_suspend_5 rfl rfl ⟨(Nat.ne_of_beq_eq_false rfl), (Nat.ne_of_beq_eq_false rfl), (fun _ => (vA_cat (mg Γ) l0)), ⟨(Nat.ne_of_beq_eq_false rfl), (Nat.ne_of_beq_eq_false rfl), (fun _ => (vA_cat (mg Γ) l1)), trivial⟩⟩ ?_
  refine s_lload_n o dX3_suspend_6 rfl 0 rfl ?_
  refine s_lconst (x := 0) o dX3_suspend_7 rfl ?_
  refine s_lcmp_lt (tgt := 18) o dX3_suspend_8 dX3_suspend_9 (by decide) (hv1 _ rfl) (r64 rfl) ?_ ?_
  · refine s_lload_n o dX3_suspend_18 rfl 0 rfl ?_
    exact s_lret o rfl (hv1 _ rfl) dX3_suspend_19 (fun _ hh => hh)
  · refine s_aload_n o dX3_suspend_12 rfl 1 rfl ?_
    refine s_aload_n o dX3_suspend_13 rfl 2 rfl ?_
    refine s_lload_n o dX3_suspend_14 rfl 0 rfl ?_
    refine s_cvC (d := d + 2) (As := [vA (mg Γ) l1, vJ v1]) (st := []) (c := 3) o (sc_X3_capture (mg Γ) (d + 1) ts l0 l1 v1 (hv1 _ rfl)) mw_X3_capture rfl (Or.inl (lw_all_tbl q2261)) rfl (lw_all_tbl q2263) (lw_all_tbl q2262) wt_0 rfl dX3_suspend_15 rfl (rs := fun _ => []) (fun _ => rfl) (fun _ _ => ?_)
    refine s_lload_n o dX3_suspend_18 rfl 0 rfl ?_
    exact s_lret o rfl (hv1 _ rfl) dX3_suspend_19 (fun _ hh => hh)
theorem dX18_keep_0 : decode cX18_keep 0 = .ok (.aload_n 1, 1) := by decide +kernel
theorem dX18_keep_1 : decode cX18_keep 1 = .ok (.aload_n 0, 1) := by decide +kernel
theorem dX18_keep_2 : decode cX18_keep 2 = .ok (.invokevirtual 44, 3) := by decide +kernel
theorem dX18_keep_5 : decode cX18_keep 5 = .ok (.lreturn, 1) := by decide +kernel
theorem mw_X18_keep : MW yX18_keep (Cond.code yX18_keep cX18_keep 2 (Option.some Jvm.ClassFile.FieldType.long)) cX18_keep 2 (Option.some Jvm.ClassFile.FieldType.long) 1 := ⟨rfl, ⟨(lw_all_tbl q2289), rfl, (lw_all_tbl q198)⟩, rfl, ⟨by decide, by decide⟩, by decide +kernel⟩
noncomputable def c_X18_keep (l0 : Int) (l1 : Int) : Mo CH Int :=
  bnd (isk 103 l1) fun _ =>
  bnd (c_X3_suspend l1 l0) fun v1 =>
  pr v1
theorem sc_X18_keep (g : gC) (d : Nat) (ts : TS) (l0 : Int) (l1 : Int) : SF g yX18_keep (Cond.code yX18_keep cX18_keep 2 (Option.some Jvm.ClassFile.FieldType.long)) (Option.some Jvm.ClassFile.FieldType.long) (d + 4) [vA g l0, vA g l1] (fun h => (h, ts)) (c_X18_keep l0 l1) := by
  refine SF.of (lv := [(0, vA g l0), (1, vA g l1)]) (by decide) (wt_A (wt_A wt_0)) rfl (by simp only [la_A, la_I, la_J, la_0]) (fun Γ hg hnm o => ?_)
  subst hg
  have o : Ok Γ "LazyForge$Let" cX18_keep 2 (Option.some Jvm.ClassFile.FieldType.long) (d + 4) := o
  unfold c_X18_keep
  refine s_aload_n o dX18_keep_0 rfl 1 rfl ?_
  refine s_aload_n o dX18_keep_1 rfl 0 rfl ?_
  refine s_cvC (d := d + 3) (As := [vA (mg Γ) l0]) (st := []) (c := 3) o (sc_X3_suspend (mg Γ) d ts l1 l0) mw_X3_suspend rfl (Or.inl (lw_all_tbl q2290)) rfl (lw_all_tbl q2259) (lw_all_tbl q2258) wt_0 rfl dX18_keep_2 rfl (rs := fun r => [vJ r]) (fun _ => rfl) (fun v1 hv1 => ?_)
  exact s_lret o rfl (hv1 _ rfl) dX18_keep_5 (fun _ hh => hh)
theorem dX19_keep_0 : decode cX19_keep 0 = .ok (.aload_n 0, 1) := by decide +kernel
theorem dX19_keep_1 : decode cX19_keep 1 = .ok (.invokevirtual 21, 3) := by decide +kernel
theorem dX19_keep_4 : decode cX19_keep 4 = .ok (.ifCond .eq 14, 3) := by decide +kernel
theorem dX19_keep_7 : decode cX19_keep 7 = .ok (.aload_n 1, 1) := by decide +kernel
theorem dX19_keep_8 : decode cX19_keep 8 = .ok (.aload_n 0, 1) := by decide +kernel
theorem dX19_keep_9 : decode cX19_keep 9 = .ok (.getfield 9, 3) := by decide +kernel
theorem dX19_keep_12 : decode cX19_keep 12 = .ok (.invokevirtual 29, 3) := by decide +kernel
theorem dX19_keep_15 : decode cX19_keep 15 = .ok (.goto 15, 3) := by decide +kernel
theorem dX19_keep_18 : decode cX19_keep 18 = .ok (.ldc2_w 35, 3) := by decide +kernel
theorem dX19_keep_21 : decode cX19_keep 21 = .ok (.aload_n 0, 1) := by decide +kernel
theorem dX19_keep_22 : decode cX19_keep 22 = .ok (.getfield 9, 3) := by decide +kernel
theorem dX19_keep_25 : decode cX19_keep 25 = .ok (.getfield 37, 3) := by decide +kernel
theorem dX19_keep_28 : decode cX19_keep 28 = .ok (.i2l, 1) := by decide +kernel
theorem dX19_keep_29 : decode cX19_keep 29 = .ok (.lor, 1) := by decide +kernel
theorem dX19_keep_30 : decode cX19_keep 30 = .ok (.lreturn, 1) := by decide +kernel
theorem mw_X19_keep : MW yX19_keep (Cond.code yX19_keep cX19_keep 2 (Option.some Jvm.ClassFile.FieldType.long)) cX19_keep 2 (Option.some Jvm.ClassFile.FieldType.long) 1 := ⟨rfl, ⟨(lw_all_tbl q2311), rfl, (lw_all_tbl q199)⟩, rfl, ⟨by decide, by decide⟩, by decide +kernel⟩
noncomputable def c_X19_keep (l0 : Int) (l1 : Int) : Mo CH Int :=
  bnd (isk 119 l0) fun _ =>
  bnd (c_X19_isWhole l0) fun v1 =>
  if v1 = 0 then
    bnd (gf [119] 5 l0) fun v2 =>
    bnd (gf [116] 0 v2) fun v3 =>
    pr (lor 8589934592 v3)
  else
    bnd (gf [119] 5 l0) fun v4 =>
    bnd (isk 103 l1) fun _ =>
    bnd (c_X3_whole l1 v4) fun v5 =>
    pr v5
theorem sc_X19_keep (g : gC) (d : Nat) (ts : TS) (l0 : Int) (l1 : Int) : SF g yX19_keep (Cond.code yX19_keep cX19_keep 2 (Option.some Jvm.ClassFile.FieldType.long)) (Option.some Jvm.ClassFile.FieldType.long) (d + 3) [vA g l0, vA g l1] (fun h => (h, ts)) (c_X19_keep l0 l1) := by
  refine SF.of (lv := [(0, vA g l0), (1, vA g l1)]) (by decide) (wt_A (wt_A wt_0)) rfl (by simp only [la_A, la_I, la_J, la_0]) (fun Γ hg hnm o => ?_)
  subst hg
  have o : Ok Γ "LazyForge$Named" cX19_keep 2 (Option.some Jvm.ClassFile.FieldType.long) (d + 3) := o
  unfold c_X19_keep
  refine s_aload_n o dX19_keep_0 rfl 0 rfl ?_
  refine s_cvC (d := d + 2) (As := []) (st := []) (c := 19) o (sc_X19_isWhole (mg Γ) d ts l0) mw_X19_isWhole rfl (Or.inl (lw_all_tbl q1718)) rfl (lw_all_tbl q1720) (lw_all_tbl q1719) wt_0 rfl dX19_keep_1 rfl (rs := fun r => [vI r]) (fun _ => rfl) (fun v1 hv1 => ?_)
  refine s_if_eq (tgt := 18) o dX19_keep_4 (by decide) (rZ (hv1 _ rfl)) ?_ ?_
  · refine s_ldc2 (n := 8589934592) o dX19_keep_18 (lw_all_tbl q2316) rfl ?_
    refine s_aload_n o dX19_keep_21 rfl 0 rfl ?_
    refine r_getf (vA (mg Γ)) rfl o cf_X19_function (Or.inl (lw_all_tbl q1367)) dX19_keep_22 (fun v2 hv2 => ?_)
    refine r_getf vI rfl o cf_X16_number (Or.inr (Or.inl ⟨_, q1145⟩)) dX19_keep_25 (fun v3 hv3 => ?_)
    refine s_i2l o dX19_keep_28 hv3 ?_
    refine s_lor o dX19_keep_29 ?_
    exact s_lret o rfl (lor_R _ _) dX19_keep_30 (fun _ hh => hh)
  · refine s_aload_n o dX19_keep_7 rfl 1 rfl ?_
    refine s_aload_n o dX19_keep_8 rfl 0 rfl ?_
    refine r_getf (vA (mg Γ)) rfl o cf_X19_function (Or.inl (lw_all_tbl q1367)) dX19_keep_9 (fun v4 hv4 => ?_)
    refine s_cvC (d := d + 2) (As := [vA (mg Γ) v4]) (st := []) (c := 3) o (sc_X3_whole (mg Γ) (d + 2) ts l1 v4) mw_X3_whole rfl (Or.inl (lw_all_tbl q2312)) rfl (lw_all_tbl q2314) (lw_all_tbl q2313) wt_0 rfl dX19_keep_12 rfl (rs := fun r => [vJ r]) (fun _ => rfl) (fun v5 hv5 => ?_)
    refine s_goto (tgt := 30) o dX19_keep_15 (by decide) ?_
    exact s_lret o rfl (hv5 _ rfl) dX19_keep_30 (fun _ hh => hh)
theorem dX20_keep_0 : decode cX20_keep 0 = .ok (.aload_n 1, 1) := by decide +kernel
theorem dX20_keep_1 : decode cX20_keep 1 = .ok (.aload_n 0, 1) := by decide +kernel
theorem dX20_keep_2 : decode cX20_keep 2 = .ok (.getfield 23, 3) := by decide +kernel
theorem dX20_keep_5 : decode cX20_keep 5 = .ok (.invokevirtual 27, 3) := by decide +kernel
theorem dX20_keep_8 : decode cX20_keep 8 = .ok (.lreturn, 1) := by decide +kernel
theorem mw_X20_keep : MW yX20_keep (Cond.code yX20_keep cX20_keep 2 (Option.some Jvm.ClassFile.FieldType.long)) cX20_keep 2 (Option.some Jvm.ClassFile.FieldType.long) 1 := ⟨rfl, ⟨(lw_all_tbl q2321), rfl, (lw_all_tbl q200)⟩, rfl, ⟨by decide, by decide⟩, by decide +kernel⟩
noncomputable def c_X20_keep (l0 : Int) (l1 : Int) : Mo CH Int :=
  bnd (gf [120] 7 l0) fun v1 =>
  bnd (isk 103 l1) fun _ =>
  bnd (c_X3_local l1 v1) fun v2 =>
  pr v2
theorem sc_X20_keep (g : gC) (d : Nat) (ts : TS) (l0 : Int) (l1 : Int) : SF g yX20_keep (Cond.code yX20_keep cX20_keep 2 (Option.some Jvm.ClassFile.FieldType.long)) (Option.some Jvm.ClassFile.FieldType.long) (d + 1) [vA g l0, vA g l1] (fun h => (h, ts)) (c_X20_keep l0 l1) := by
  refine SF.of (lv := [(0, vA g l0), (1, vA g l1)]) (by decide) (wt_A (wt_A wt_0)) rfl (by simp only [la_A, la_I, la_J, la_0]) (fun Γ hg hnm o => ?_)
  subst hg
  have o : Ok Γ "LazyForge$Use" cX20_keep 2 (Option.some Jvm.ClassFile.FieldType.long) (d + 1) := o
  unfold c_X20_keep
  refine s_aload_n o dX20_keep_0 rfl 1 rfl ?_
  refine s_aload_n o dX20_keep_1 rfl 0 rfl ?_
  refine r_getf vI rfl o cf_X20_number0 (Or.inl (lw_all_tbl q1446)) dX20_keep_2 (fun v1 hv1 => ?_)
  refine s_cvC (d := d + 0) (As := [vI v1]) (st := []) (c := 3) o (sc_X3_local (mg Γ) d ts l1 v1 hv1) mw_X3_local rfl (Or.inl (lw_all_tbl q2322)) rfl (lw_all_tbl q2267) (lw_all_tbl q2266) wt_0 rfl dX20_keep_5 rfl (rs := fun r => [vJ r]) (fun _ => rfl) (fun v2 hv2 => ?_)
  exact s_lret o rfl (hv2 _ rfl) dX20_keep_8 (fun _ hh => hh)
theorem dX21_function_0 : decode cX21_function 0 = .ok (.aload_n 0, 1) := by decide +kernel
theorem dX21_function_1 : decode cX21_function 1 = .ok (.getfield 9, 3) := by decide +kernel
theorem dX21_function_4 : decode cX21_function 4 = .ok (.instanceof 23, 3) := by decide +kernel
theorem dX21_function_7 : decode cX21_function 7 = .ok (.ifCond .eq 29, 3) := by decide +kernel
theorem dX21_function_10 : decode cX21_function 10 = .ok (.aload_n 0, 1) := by decide +kernel
theorem dX21_function_11 : decode cX21_function 11 = .ok (.getfield 9, 3) := by decide +kernel
theorem dX21_function_14 : decode cX21_function 14 = .ok (.checkcast 23, 3) := by decide +kernel
theorem dX21_function_17 : decode cX21_function 17 = .ok (.invokevirtual 25, 3) := by decide +kernel
theorem dX21_function_20 : decode cX21_function 20 = .ok (.ifCond .ne 16, 3) := by decide +kernel
theorem dX21_function_23 : decode cX21_function 23 = .ok (.aload_n 0, 1) := by decide +kernel
theorem dX21_function_24 : decode cX21_function 24 = .ok (.getfield 9, 3) := by decide +kernel
theorem dX21_function_27 : decode cX21_function 27 = .ok (.checkcast 23, 3) := by decide +kernel
theorem dX21_function_30 : decode cX21_function 30 = .ok (.getfield 29, 3) := by decide +kernel
theorem dX21_function_33 : decode cX21_function 33 = .ok (.goto 4, 3) := by decide +kernel
theorem dX21_function_36 : decode cX21_function 36 = .ok (.aconst_null, 1) := by decide +kernel
theorem dX21_function_37 : decode cX21_function 37 = .ok (.areturn, 1) := by decide +kernel
theorem mw_X21_function : MW yX21_function (Cond.code yX21_function cX21_function 1 (Option.some (Jvm.ClassFile.FieldType.object "LazyForge$Function"))) cX21_function 1 (Option.some (Jvm.ClassFile.FieldType.object "LazyForge$Function")) 0 := ⟨rfl, ⟨(lw_all_tbl q1876), rfl, (lw_all_tbl q201)⟩, rfl, ⟨by decide, by decide⟩, by decide +kernel⟩
noncomputable def c_X21_function (l0 : Int) : Mo CH Int :=
  bnd (gf [121] 5 l0) fun v1 =>
  bnd (ins 119 [118, 119, 120, 121, 122, 123, 124, 125, 126] v1) fun v2 =>
  if v2 = 0 then
    pr 0
  else
    bnd (gf [121] 5 l0) fun v3 =>
    bnd (ckk [119] v3) fun _ =>
    bnd (isk 119 v3) fun _ =>
    bnd (c_X19_isWhole v3) fun v4 =>
    if ¬ v4 = 0 then
      pr 0
    else
      bnd (gf [121] 5 l0) fun v5 =>
      bnd (ckk [119] v5) fun _ =>
      bnd (gf [119] 5 v5) fun v6 =>
      pr v6
theorem sc_X21_function (g : gC) (d : Nat) (ts : TS) (l0 : Int) : SF g yX21_function (Cond.code yX21_function cX21_function 1 (Option.some (Jvm.ClassFile.FieldType.object "LazyForge$Function"))) (Option.some (Jvm.ClassFile.FieldType.object "LazyForge$Function")) (d + 3) [vA g l0] (fun h => (h, ts)) (c_X21_function l0) := by
  refine SF.of (lv := [(0, vA g l0)]) (by decide) (wt_A wt_0) rfl (by simp only [la_A, la_I, la_J, la_0]) (fun Γ hg hnm o => ?_)
  subst hg
  have o : Ok Γ "LazyForge$Apply" cX21_function 1 (Option.some (Jvm.ClassFile.FieldType.object "LazyForge$Function")) (d + 3) := o
  unfold c_X21_function
  refine s_aload_n o dX21_function_0 rfl 0 rfl ?_
  refine r_getf (vA (mg Γ)) rfl o cf_X21_head (Or.inl (lw_all_tbl q1468)) dX21_function_1 (fun v1 hv1 => ?_)
  refine s_inst o (is_X19 o) (lw_all_tbl q1702) dX21_function_4 (fun v2 hv2 => ?_)
  refine s_if_eq (tgt := 36) o dX21_function_7 (by decide) (rZ hv2) ?_ ?_
  · refine s_null o dX21_function_36 ?_
    exact s_aret o rfl (Or.inl ⟨_, rfl⟩) dX21_function_37 (fun _ hh => hh)
  · refine s_aload_n o dX21_function_10 rfl 0 rfl ?_
    refine r_getf (vA (mg Γ)) rfl o cf_X21_head (Or.inl (lw_all_tbl q1468)) dX21_function_11 (fun v3 hv3 => ?_)
    refine s_cast o (cs_X19 o) (lw_all_tbl q1702) dX21_function_14 ?_
    refine s_cvC (d := d + 2) (As := []) (st := []) (c := 19) o (sc_X19_isWhole (mg Γ) d ts v3) mw_X19_isWhole rfl (Or.inl (lw_all_tbl q1877)) rfl (lw_all_tbl q1720) (lw_all_tbl q1719) wt_0 rfl dX21_function_17 rfl (rs := fun r => [vI r]) (fun _ => rfl) (fun v4 hv4 => ?_)
    refine s_if_ne (tgt := 36) o dX21_function_20 (by decide) (rZ (hv4 _ rfl)) ?_ ?_
    · refine s_null o dX21_function_36 ?_
      exact s_aret o rfl (Or.inl ⟨_, rfl⟩) dX21_function_37 (fun _ hh => hh)
    · refine s_aload_n o dX21_function_23 rfl 0 rfl ?_
      refine r_getf (vA (mg Γ)) rfl o cf_X21_head (Or.inl (lw_all_tbl q1468)) dX21_function_24 (fun v5 hv5 => ?_)
      refine s_cast o (cs_X19 o) (lw_all_tbl q1702) dX21_function_27 ?_
      refine r_getf (vA (mg Γ)) rfl o cf_X19_function (Or.inr (Or.inl ⟨_, q1368⟩)) dX21_function_30 (fun v6 hv6 => ?_)
      refine s_goto (tgt := 37) o dX21_function_33 (by decide) ?_
      exact s_aret o rfl (Or.inl ⟨_, rfl⟩) dX21_function_37 (fun _ hh => hh)
theorem dX21_begin_0 : decode cX21_begin 0 = .ok (.aload_n 1, 1) := by decide +kernel
theorem dX21_begin_1 : decode cX21_begin 1 = .ok (.aload_n 0, 1) := by decide +kernel
theorem dX21_begin_2 : decode cX21_begin 2 = .ok (.invokevirtual 33, 3) := by decide +kernel
theorem dX21_begin_5 : decode cX21_begin 5 = .ok (.aload_n 0, 1) := by decide +kernel
theorem dX21_begin_6 : decode cX21_begin 6 = .ok (.getfield 15, 3) := by decide +kernel
theorem dX21_begin_9 : decode cX21_begin 9 = .ok (.arraylength, 1) := by decide +kernel
theorem dX21_begin_10 : decode cX21_begin 10 = .ok (.invokevirtual 79, 3) := by decide +kernel
theorem dX21_begin_13 : decode cX21_begin 13 = .ok (.lreturn, 1) := by decide +kernel
theorem mw_X21_begin : MW yX21_begin (Cond.code yX21_begin cX21_begin 2 (Option.some Jvm.ClassFile.FieldType.long)) cX21_begin 2 (Option.some Jvm.ClassFile.FieldType.long) 1 := ⟨rfl, ⟨(lw_all_tbl q2272), rfl, (lw_all_tbl q201)⟩, rfl, ⟨by decide, by decide⟩, by decide +kernel⟩
noncomputable def c_X21_begin (l0 : Int) (l1 : Int) : Mo CH Int :=
  bnd (isk 121 l0) fun _ =>
  bnd (c_X21_function l0) fun v1 =>
  bnd (gf [121] 6 l0) fun v2 =>
  bnd (aln v2) fun v3 =>
  bnd (isk 103 l1) fun _ =>
  bnd (c_X3_partOfCall l1 v1 v3) fun v4 =>
  pr v4
theorem sc_X21_begin (g : gC) (d : Nat) (ts : TS) (l0 : Int) (l1 : Int) : SF g yX21_begin (Cond.code yX21_begin cX21_begin 2 (Option.some Jvm.ClassFile.FieldType.long)) (Option.some Jvm.ClassFile.FieldType.long) (d + 4) [vA g l0, vA g l1] (fun h => (h, ts)) (c_X21_begin l0 l1) := by
  refine SF.of (lv := [(0, vA g l0), (1, vA g l1)]) (by decide) (wt_A (wt_A wt_0)) rfl (by simp only [la_A, la_I, la_J, la_0]) (fun Γ hg hnm o => ?_)
  subst hg
  have o : Ok Γ "LazyForge$Apply" cX21_begin 2 (Option.some Jvm.ClassFile.FieldType.long) (d + 4) := o
  unfold c_X21_begin
  refine s_aload_n o dX21_begin_0 rfl 1 rfl ?_
  refine s_aload_n o dX21_begin_1 rfl 0 rfl ?_
  refine s_cvC (d := d + 3) (As := []) (st := [vA (mg Γ) l1]) (c := 21) o (sc_X21_function (mg Γ) d ts l0) mw_X21_function rfl (Or.inl (lw_all_tbl q1873)) rfl (lw_all_tbl qs46) (lw_all_tbl q1875) (wt_A wt_0) rfl dX21_begin_2 rfl (rs := fun r => [vA (mg Γ) r, vA (mg Γ) l1]) (fun _ => rfl) (fun v1 hv1 => ?_)
  refine s_aload_n o dX21_begin_5 rfl 0 rfl ?_
  refine r_getf (vA (mg Γ)) rfl o cf_X21_arguments (Or.inl (lw_all_tbl q1469)) dX21_begin_6 (fun v2 hv2 => ?_)
  refine s_alen o dX21_begin_9 (fun v3 hv3 => ?_)
  refine s_cvC (d := d + 3) (As := [vA (mg Γ) v1, vI v3]) (st := []) (c := 3) o (sc_X3_partOfCall (mg Γ) (d + 1) ts l1 v1 v3 (rN hv3)) mw_X3_partOfCall rfl (Or.inl (lw_all_tbl q2273)) rfl (lw_all_tbl q2238) (lw_all_tbl q2237) wt_0 rfl dX21_begin_10 rfl (rs := fun r => [vJ r]) (fun _ => rfl) (fun v4 hv4 => ?_)
  exact s_lret o rfl (hv4 _ rfl) dX21_begin_13 (fun _ hh => hh)
theorem dX21_isLess_0 : decode cX21_isLess 0 = .ok (.aload_n 0, 1) := by decide +kernel
theorem dX21_isLess_1 : decode cX21_isLess 1 = .ok (.invokevirtual 33, 3) := by decide +kernel
theorem dX21_isLess_4 : decode cX21_isLess 4 = .ok (.ifnull 22, 3) := by decide +kernel
theorem dX21_isLess_7 : decode cX21_isLess 7 = .ok (.aload_n 0, 1) := by decide +kernel
theorem dX21_isLess_8 : decode cX21_isLess 8 = .ok (.getfield 15, 3) := by decide +kernel
theorem dX21_isLess_11 : decode cX21_isLess 11 = .ok (.arraylength, 1) := by decide +kernel
theorem dX21_isLess_12 : decode cX21_isLess 12 = .ok (.aload_n 0, 1) := by decide +kernel
theorem dX21_isLess_13 : decode cX21_isLess 13 = .ok (.invokevirtual 33, 3) := by decide +kernel
theorem dX21_isLess_16 : decode cX21_isLess 16 = .ok (.invokevirtual 36, 3) := by decide +kernel
theorem dX21_isLess_19 : decode cX21_isLess 19 = .ok (.if_icmp .ge 7, 3) := by decide +kernel
theorem dX21_isLess_22 : decode cX21_isLess 22 = .ok (.iconst 1, 1) := by decide +kernel
theorem dX21_isLess_23 : decode cX21_isLess 23 = .ok (.goto 4, 3) := by decide +kernel
theorem dX21_isLess_26 : decode cX21_isLess 26 = .ok (.iconst 0, 1) := by decide +kernel
theorem dX21_isLess_27 : decode cX21_isLess 27 = .ok (.ireturn, 1) := by decide +kernel
theorem mw_X21_isLess : MW yX21_isLess (Cond.code yX21_isLess cX21_isLess 1 (Option.some Jvm.ClassFile.FieldType.boolean)) cX21_isLess 1 (Option.some Jvm.ClassFile.FieldType.boolean) 0 := ⟨rfl, ⟨(lw_all_tbl q1872), rfl, (lw_all_tbl q201)⟩, rfl, ⟨by decide, by decide⟩, by decide +kernel⟩
noncomputable def c_X21_isLess (l0 : Int) : Mo CH Int :=
  bnd (isk 121 l0) fun _ =>
  bnd (c_X21_function l0) fun v1 =>
  if v1 = 0 then
    pr 0
  else
    bnd (gf [121] 6 l0) fun v2 =>
    bnd (aln v2) fun v3 =>
    bnd (isk 121 l0) fun _ =>
    bnd (c_X21_function l0) fun v4 =>
    bnd (isk 116 v4) fun _ =>
    bnd (c_X16_parameters v4) fun v5 =>
    if v5 ≤ v3 then
      pr 0
    else
      pr 1
theorem sc_X21_isLess (g : gC) (d : Nat) (ts : TS) (l0 : Int) : SF g yX21_isLess (Cond.code yX21_isLess cX21_isLess 1 (Option.some Jvm.ClassFile.FieldType.boolean)) (Option.some Jvm.ClassFile.FieldType.boolean) (d + 4) [vA g l0] (fun h => (h, ts)) (c_X21_isLess l0) := by
  refine SF.of (lv := [(0, vA g l0)]) (by decide) (wt_A wt_0) rfl (by simp only [la_A, la_I, la_J, la_0]) (fun Γ hg hnm o => ?_)
  subst hg
  have o : Ok Γ "LazyForge$Apply" cX21_isLess 1 (Option.some Jvm.ClassFile.FieldType.boolean) (d + 4) := o
  unfold c_X21_isLess
  refine s_aload_n o dX21_isLess_0 rfl 0 rfl ?_
  refine s_cvC (d := d + 3) (As := []) (st := []) (c := 21) o (sc_X21_function (mg Γ) d ts l0) mw_X21_function rfl (Or.inl (lw_all_tbl q1873)) rfl (lw_all_tbl qs46) (lw_all_tbl q1875) wt_0 rfl dX21_isLess_1 rfl (rs := fun r => [vA (mg Γ) r]) (fun _ => rfl) (fun v1 hv1 => ?_)
  refine s_ifnull (tgt := 26) o dX21_isLess_4 (by decide) ?_ ?_
  · refine s_iconst o dX21_isLess_26 ?_
    exact s_iret o rfl i_boolean (Or.inl rfl) dX21_isLess_27 (fun _ hh => hh)
  · refine s_aload_n o dX21_isLess_7 rfl 0 rfl ?_
    refine r_getf (vA (mg Γ)) rfl o cf_X21_arguments (Or.inl (lw_all_tbl q1469)) dX21_isLess_8 (fun v2 hv2 => ?_)
    refine s_alen o dX21_isLess_11 (fun v3 hv3 => ?_)
    refine s_aload_n o dX21_isLess_12 rfl 0 rfl ?_
    refine s_cvC (d := d + 3) (As := []) (st := [vI v3]) (c := 21) o (sc_X21_function (mg Γ) d ts l0) mw_X21_function rfl (Or.inl (lw_all_tbl q1873)) rfl (lw_all_tbl qs46) (lw_all_tbl q1875) (wt_I wt_0) rfl dX21_isLess_13 rfl (rs := fun r => [vA (mg Γ) r, vI v3]) (fun _ => rfl) (fun v4 hv4 => ?_)
    refine s_cvC (d := d + 3) (As := []) (st := [vI v3]) (c := 16) o (sc_X16_parameters (mg Γ) (d + 2) ts v4) mw_X16_parameters rfl (Or.inl (lw_all_tbl q1729)) rfl (lw_all_tbl q1606) (lw_all_tbl q1605) (wt_I wt_0) rfl dX21_isLess_16 rfl (rs := fun r => [vI r, vI v3]) (fun _ => rfl) (fun v5 hv5 => ?_)
    refine s_icmp_ge (tgt := 26) o dX21_isLess_19 (by decide) (rN hv3) (hv5 _ rfl) ?_ ?_
    · refine s_iconst o dX21_isLess_26 ?_
      exact s_iret o rfl i_boolean (Or.inl rfl) dX21_isLess_27 (fun _ hh => hh)
    · refine s_iconst o dX21_isLess_22 ?_
      refine s_goto (tgt := 27) o dX21_isLess_23 (by decide) ?_
      exact s_iret o rfl i_boolean (Or.inr rfl) dX21_isLess_27 (fun _ hh => hh)
theorem dX22_keep_0 : decode cX22_keep 0 = .ok (.aload_n 1, 1) := by decide +kernel
theorem dX22_keep_1 : decode cX22_keep 1 = .ok (.aload_n 0, 1) := by decide +kernel
theorem dX22_keep_2 : decode cX22_keep 2 = .ok (.invokevirtual 53, 3) := by decide +kernel
theorem dX22_keep_5 : decode cX22_keep 5 = .ok (.lreturn, 1) := by decide +kernel
theorem mw_X22_keep : MW yX22_keep (Cond.code yX22_keep cX22_keep 2 (Option.some Jvm.ClassFile.FieldType.long)) cX22_keep 2 (Option.some Jvm.ClassFile.FieldType.long) 1 := ⟨rfl, ⟨(lw_all_tbl q2283), rfl, (lw_all_tbl q202)⟩, rfl, ⟨by decide, by decide⟩, by decide +kernel⟩
noncomputable def c_X22_keep (l0 : Int) (l1 : Int) : Mo CH Int :=
  bnd (isk 103 l1) fun _ =>
  bnd (c_X3_suspend l1 l0) fun v1 =>
  pr v1
theorem sc_X22_keep (g : gC) (d : Nat) (ts : TS) (l0 : Int) (l1 : Int) : SF g yX22_keep (Cond.code yX22_keep cX22_keep 2 (Option.some Jvm.ClassFile.FieldType.long)) (Option.some Jvm.ClassFile.FieldType.long) (d + 4) [vA g l0, vA g l1] (fun h => (h, ts)) (c_X22_keep l0 l1) := by
  refine SF.of (lv := [(0, vA g l0), (1, vA g l1)]) (by decide) (wt_A (wt_A wt_0)) rfl (by simp only [la_A, la_I, la_J, la_0]) (fun Γ hg hnm o => ?_)
  subst hg
  have o : Ok Γ "LazyForge$Case" cX22_keep 2 (Option.some Jvm.ClassFile.FieldType.long) (d + 4) := o
  unfold c_X22_keep
  refine s_aload_n o dX22_keep_0 rfl 1 rfl ?_
  refine s_aload_n o dX22_keep_1 rfl 0 rfl ?_
  refine s_cvC (d := d + 3) (As := [vA (mg Γ) l0]) (st := []) (c := 3) o (sc_X3_suspend (mg Γ) d ts l1 l0) mw_X3_suspend rfl (Or.inl (lw_all_tbl q2284)) rfl (lw_all_tbl q2259) (lw_all_tbl q2258) wt_0 rfl dX22_keep_2 rfl (rs := fun r => [vJ r]) (fun _ => rfl) (fun v1 hv1 => ?_)
  exact s_lret o rfl (hv1 _ rfl) dX22_keep_5 (fun _ hh => hh)
theorem dX23_keep_0 : decode cX23_keep 0 = .ok (.aload_n 1, 1) := by decide +kernel
theorem dX23_keep_1 : decode cX23_keep 1 = .ok (.aload_n 0, 1) := by decide +kernel
theorem dX23_keep_2 : decode cX23_keep 2 = .ok (.invokevirtual 38, 3) := by decide +kernel
theorem dX23_keep_5 : decode cX23_keep 5 = .ok (.lreturn, 1) := by decide +kernel
theorem mw_X23_keep : MW yX23_keep (Cond.code yX23_keep cX23_keep 2 (Option.some Jvm.ClassFile.FieldType.long)) cX23_keep 2 (Option.some Jvm.ClassFile.FieldType.long) 1 := ⟨rfl, ⟨(lw_all_tbl q2318), rfl, (lw_all_tbl q203)⟩, rfl, ⟨by decide, by decide⟩, by decide +kernel⟩
noncomputable def c_X23_keep (l0 : Int) (l1 : Int) : Mo CH Int :=
  bnd (isk 103 l1) fun _ =>
  bnd (c_X3_suspend l1 l0) fun v1 =>
  pr v1
theorem sc_X23_keep (g : gC) (d : Nat) (ts : TS) (l0 : Int) (l1 : Int) : SF g yX23_keep (Cond.code yX23_keep cX23_keep 2 (Option.some Jvm.ClassFile.FieldType.long)) (Option.some Jvm.ClassFile.FieldType.long) (d + 4) [vA g l0, vA g l1] (fun h => (h, ts)) (c_X23_keep l0 l1) := by
  refine SF.of (lv := [(0, vA g l0), (1, vA g l1)]) (by decide) (wt_A (wt_A wt_0)) rfl (by simp only [la_A, la_I, la_J, la_0]) (fun Γ hg hnm o => ?_)
  subst hg
  have o : Ok Γ "LazyForge$Sign" cX23_keep 2 (Option.some Jvm.ClassFile.FieldType.long) (d + 4) := o
  unfold c_X23_keep
  refine s_aload_n o dX23_keep_0 rfl 1 rfl ?_
  refine s_aload_n o dX23_keep_1 rfl 0 rfl ?_
  refine s_cvC (d := d + 3) (As := [vA (mg Γ) l0]) (st := []) (c := 3) o (sc_X3_suspend (mg Γ) d ts l1 l0) mw_X3_suspend rfl (Or.inl (lw_all_tbl q2319)) rfl (lw_all_tbl q2259) (lw_all_tbl q2258) wt_0 rfl dX23_keep_2 rfl (rs := fun r => [vJ r]) (fun _ => rfl) (fun v1 hv1 => ?_)
  exact s_lret o rfl (hv1 _ rfl) dX23_keep_5 (fun _ hh => hh)
theorem dX24_keep_0 : decode cX24_keep 0 = .ok (.aload_n 0, 1) := by decide +kernel
theorem dX24_keep_1 : decode cX24_keep 1 = .ok (.getfield 7, 3) := by decide +kernel
theorem dX24_keep_4 : decode cX24_keep 4 = .ok (.lreturn, 1) := by decide +kernel
theorem mw_X24_keep : MW yX24_keep (Cond.code yX24_keep cX24_keep 2 (Option.some Jvm.ClassFile.FieldType.long)) cX24_keep 2 (Option.some Jvm.ClassFile.FieldType.long) 1 := ⟨rfl, ⟨(lw_all_tbl q2292), rfl, (lw_all_tbl q204)⟩, rfl, ⟨by decide, by decide⟩, by decide +kernel⟩
noncomputable def c_X24_keep (l0 : Int) (l1 : Int) : Mo CH Int :=
  bnd (gf [124] 5 l0) fun v1 =>
  pr v1
theorem sc_X24_keep (g : gC) (d : Nat) (ts : TS) (l0 : Int) (l1 : Int) : SF g yX24_keep (Cond.code yX24_keep cX24_keep 2 (Option.some Jvm.ClassFile.FieldType.long)) (Option.some Jvm.ClassFile.FieldType.long) (d + 0) [vA g l0, vA g l1] (fun h => (h, ts)) (c_X24_keep l0 l1) := by
  refine SF.of (lv := [(0, vA g l0), (1, vA g l1)]) (by decide) (wt_A (wt_A wt_0)) rfl (by simp only [la_A, la_I, la_J, la_0]) (fun Γ hg hnm o => ?_)
  subst hg
  have o : Ok Γ "LazyForge$Literal" cX24_keep 2 (Option.some Jvm.ClassFile.FieldType.long) (d + 0) := o
  unfold c_X24_keep
  refine s_aload_n o dX24_keep_0 rfl 0 rfl ?_
  refine r_getf vJ rfl o cf_X24_value (Or.inl (lw_all_tbl q1550)) dX24_keep_1 (fun v1 hv1 => ?_)
  exact s_lret o rfl hv1 dX24_keep_4 (fun _ hh => hh)
theorem dX25_begin_0 : decode cX25_begin 0 = .ok (.aload_n 1, 1) := by decide +kernel
theorem dX25_begin_1 : decode cX25_begin 1 = .ok (.aload_n 0, 1) := by decide +kernel
theorem dX25_begin_2 : decode cX25_begin 2 = .ok (.getfield 9, 3) := by decide +kernel
theorem dX25_begin_5 : decode cX25_begin 5 = .ok (.aload_n 0, 1) := by decide +kernel
theorem dX25_begin_6 : decode cX25_begin 6 = .ok (.getfield 15, 3) := by decide +kernel
theorem dX25_begin_9 : decode cX25_begin 9 = .ok (.arraylength, 1) := by decide +kernel
theorem dX25_begin_10 : decode cX25_begin 10 = .ok (.invokevirtual 43, 3) := by decide +kernel
theorem dX25_begin_13 : decode cX25_begin 13 = .ok (.lreturn, 1) := by decide +kernel
theorem mw_X25_begin : MW yX25_begin (Cond.code yX25_begin cX25_begin 2 (Option.some Jvm.ClassFile.FieldType.long)) cX25_begin 2 (Option.some Jvm.ClassFile.FieldType.long) 1 := ⟨rfl, ⟨(lw_all_tbl q2298), rfl, (lw_all_tbl q205)⟩, rfl, ⟨by decide, by decide⟩, by decide +kernel⟩
noncomputable def c_X25_begin (l0 : Int) (l1 : Int) : Mo CH Int :=
  bnd (gf [125] 5 l0) fun v1 =>
  bnd (gf [125] 6 l0) fun v2 =>
  bnd (aln v2) fun v3 =>
  bnd (isk 103 l1) fun _ =>
  bnd (c_X3_object l1 v1 v3) fun v4 =>
  pr v4
theorem sc_X25_begin (g : gC) (d : Nat) (ts : TS) (l0 : Int) (l1 : Int) : SF g yX25_begin (Cond.code yX25_begin cX25_begin 2 (Option.some Jvm.ClassFile.FieldType.long)) (Option.some Jvm.ClassFile.FieldType.long) (d + 3) [vA g l0, vA g l1] (fun h => (h, ts)) (c_X25_begin l0 l1) := by
  refine SF.of (lv := [(0, vA g l0), (1, vA g l1)]) (by decide) (wt_A (wt_A wt_0)) rfl (by simp only [la_A, la_I, la_J, la_0]) (fun Γ hg hnm o => ?_)
  subst hg
  have o : Ok Γ "LazyForge$Made" cX25_begin 2 (Option.some Jvm.ClassFile.FieldType.long) (d + 3) := o
  unfold c_X25_begin
  refine s_aload_n o dX25_begin_0 rfl 1 rfl ?_
  refine s_aload_n o dX25_begin_1 rfl 0 rfl ?_
  refine r_getf vI rfl o cf_X25_constructor (Or.inl (lw_all_tbl q1568)) dX25_begin_2 (fun v1 hv1 => ?_)
  refine s_aload_n o dX25_begin_5 rfl 0 rfl ?_
  refine r_getf (vA (mg Γ)) rfl o cf_X25_fields (Or.inl (lw_all_tbl q1569)) dX25_begin_6 (fun v2 hv2 => ?_)
  refine s_alen o dX25_begin_9 (fun v3 hv3 => ?_)
  refine s_cvC (d := d + 2) (As := [vI v1, vI v3]) (st := []) (c := 3) o (sc_X3_object (mg Γ) d ts l1 v1 v3 hv1 (rN hv3)) mw_X3_object rfl (Or.inl (lw_all_tbl q2299)) rfl (lw_all_tbl q2301) (lw_all_tbl q2300) wt_0 rfl dX25_begin_10 rfl (rs := fun r => [vJ r]) (fun _ => rfl) (fun v4 hv4 => ?_)
  exact s_lret o rfl (hv4 _ rfl) dX25_begin_13 (fun _ hh => hh)
theorem dX26_keep_0 : decode cX26_keep 0 = .ok (.aload_n 1, 1) := by decide +kernel
theorem dX26_keep_1 : decode cX26_keep 1 = .ok (.aload_n 0, 1) := by decide +kernel
theorem dX26_keep_2 : decode cX26_keep 2 = .ok (.invokevirtual 9, 3) := by decide +kernel
theorem dX26_keep_5 : decode cX26_keep 5 = .ok (.lreturn, 1) := by decide +kernel
theorem mw_X26_keep : MW yX26_keep (Cond.code yX26_keep cX26_keep 2 (Option.some Jvm.ClassFile.FieldType.long)) cX26_keep 2 (Option.some Jvm.ClassFile.FieldType.long) 1 := ⟨rfl, ⟨(lw_all_tbl q2286), rfl, (lw_all_tbl q206)⟩, rfl, ⟨by decide, by decide⟩, by decide +kernel⟩
noncomputable def c_X26_keep (l0 : Int) (l1 : Int) : Mo CH Int :=
  bnd (isk 103 l1) fun _ =>
  bnd (c_X3_suspend l1 l0) fun v1 =>
  pr v1
theorem sc_X26_keep (g : gC) (d : Nat) (ts : TS) (l0 : Int) (l1 : Int) : SF g yX26_keep (Cond.code yX26_keep cX26_keep 2 (Option.some Jvm.ClassFile.FieldType.long)) (Option.some Jvm.ClassFile.FieldType.long) (d + 4) [vA g l0, vA g l1] (fun h => (h, ts)) (c_X26_keep l0 l1) := by
  refine SF.of (lv := [(0, vA g l0), (1, vA g l1)]) (by decide) (wt_A (wt_A wt_0)) rfl (by simp only [la_A, la_I, la_J, la_0]) (fun Γ hg hnm o => ?_)
  subst hg
  have o : Ok Γ "LazyForge$Fail" cX26_keep 2 (Option.some Jvm.ClassFile.FieldType.long) (d + 4) := o
  unfold c_X26_keep
  refine s_aload_n o dX26_keep_0 rfl 1 rfl ?_
  refine s_aload_n o dX26_keep_1 rfl 0 rfl ?_
  refine s_cvC (d := d + 3) (As := [vA (mg Γ) l0]) (st := []) (c := 3) o (sc_X3_suspend (mg Γ) d ts l1 l0) mw_X3_suspend rfl (Or.inl (lw_all_tbl q2287)) rfl (lw_all_tbl q2259) (lw_all_tbl q2258) wt_0 rfl dX26_keep_2 rfl (rs := fun r => [vJ r]) (fun _ => rfl) (fun v1 hv1 => ?_)
  exact s_lret o rfl (hv1 _ rfl) dX26_keep_5 (fun _ hh => hh)
theorem dX25_fill_0 : decode cX25_fill 0 = .ok (.aload_n 1, 1) := by decide +kernel
theorem dX25_fill_1 : decode cX25_fill 1 = .ok (.lload_n 2, 1) := by decide +kernel
theorem dX25_fill_2 : decode cX25_fill 2 = .ok (.iconst 1, 1) := by decide +kernel
theorem dX25_fill_3 : decode cX25_fill 3 = .ok (.aload_n 0, 1) := by decide +kernel
theorem dX25_fill_4 : decode cX25_fill 4 = .ok (.getfield 15, 3) := by decide +kernel
theorem dX25_fill_7 : decode cX25_fill 7 = .ok (.invokevirtual 49, 3) := by decide +kernel
theorem dX25_fill_10 : decode cX25_fill 10 = .ok (.ireturn, 1) := by decide +kernel
theorem mw_X25_fill : MW yX25_fill (Cond.code yX25_fill cX25_fill 4 (Option.some Jvm.ClassFile.FieldType.boolean)) cX25_fill 4 (Option.some Jvm.ClassFile.FieldType.boolean) 2 := ⟨rfl, ⟨(lw_all_tbl q2307), rfl, (lw_all_tbl q205)⟩, rfl, ⟨by decide, by decide⟩, by decide +kernel⟩
theorem dX25_keep_0 : decode cX25_keep 0 = .ok (.aload_n 0, 1) := by decide +kernel
theorem dX25_keep_1 : decode cX25_keep 1 = .ok (.aload_n 1, 1) := by decide +kernel
theorem dX25_keep_2 : decode cX25_keep 2 = .ok (.invokevirtual 33, 3) := by decide +kernel
theorem dX25_keep_5 : decode cX25_keep 5 = .ok (.lstore_n 2, 1) := by decide +kernel
theorem dX25_keep_6 : decode cX25_keep 6 = .ok (.lload_n 2, 1) := by decide +kernel
theorem dX25_keep_7 : decode cX25_keep 7 = .ok (.lconst 0, 1) := by decide +kernel
theorem dX25_keep_8 : decode cX25_keep 8 = .ok (.lcmp, 1) := by decide +kernel
theorem dX25_keep_9 : decode cX25_keep 9 = .ok (.ifCond .lt 16, 3) := by decide +kernel
theorem dX25_keep_12 : decode cX25_keep 12 = .ok (.aload_n 0, 1) := by decide +kernel
theorem dX25_keep_13 : decode cX25_keep 13 = .ok (.aload_n 1, 1) := by decide +kernel
theorem dX25_keep_14 : decode cX25_keep 14 = .ok (.lload_n 2, 1) := by decide +kernel
theorem dX25_keep_15 : decode cX25_keep 15 = .ok (.invokevirtual 37, 3) := by decide +kernel
theorem dX25_keep_18 : decode cX25_keep 18 = .ok (.ifCond .eq 7, 3) := by decide +kernel
theorem dX25_keep_21 : decode cX25_keep 21 = .ok (.lload_n 2, 1) := by decide +kernel
theorem dX25_keep_22 : decode cX25_keep 22 = .ok (.goto 6, 3) := by decide +kernel
theorem dX25_keep_25 : decode cX25_keep 25 = .ok (.ldc2_w 41, 3) := by decide +kernel
theorem dX25_keep_28 : decode cX25_keep 28 = .ok (.lreturn, 1) := by decide +kernel
theorem mw_X25_keep : MW yX25_keep (Cond.code yX25_keep cX25_keep 4 (Option.some Jvm.ClassFile.FieldType.long)) cX25_keep 4 (Option.some Jvm.ClassFile.FieldType.long) 1 := ⟨rfl, ⟨(lw_all_tbl q2294), rfl, (lw_all_tbl q205)⟩, rfl, ⟨by decide, by decide⟩, by decide +kernel⟩
theorem dX21_fill_0 : decode cX21_fill 0 = .ok (.aload_n 1, 1) := by decide +kernel
theorem dX21_fill_1 : decode cX21_fill 1 = .ok (.lload_n 2, 1) := by decide +kernel
theorem dX21_fill_2 : decode cX21_fill 2 = .ok (.iconst 2, 1) := by decide +kernel
theorem dX21_fill_3 : decode cX21_fill 3 = .ok (.aload_n 0, 1) := by decide +kernel
theorem dX21_fill_4 : decode cX21_fill 4 = .ok (.getfield 15, 3) := by decide +kernel
theorem dX21_fill_7 : decode cX21_fill 7 = .ok (.invokevirtual 83, 3) := by decide +kernel
theorem dX21_fill_10 : decode cX21_fill 10 = .ok (.ireturn, 1) := by decide +kernel
theorem mw_X21_fill : MW yX21_fill (Cond.code yX21_fill cX21_fill 4 (Option.some Jvm.ClassFile.FieldType.boolean)) cX21_fill 4 (Option.some Jvm.ClassFile.FieldType.boolean) 2 := ⟨rfl, ⟨(lw_all_tbl q2277), rfl, (lw_all_tbl q201)⟩, rfl, ⟨by decide, by decide⟩, by decide +kernel⟩
theorem dX21_keep_0 : decode cX21_keep 0 = .ok (.aload_n 0, 1) := by decide +kernel
theorem dX21_keep_1 : decode cX21_keep 1 = .ok (.invokevirtual 60, 3) := by decide +kernel
theorem dX21_keep_4 : decode cX21_keep 4 = .ok (.ifCond .ne 9, 3) := by decide +kernel
theorem dX21_keep_7 : decode cX21_keep 7 = .ok (.aload_n 1, 1) := by decide +kernel
theorem dX21_keep_8 : decode cX21_keep 8 = .ok (.aload_n 0, 1) := by decide +kernel
theorem dX21_keep_9 : decode cX21_keep 9 = .ok (.invokevirtual 63, 3) := by decide +kernel
theorem dX21_keep_12 : decode cX21_keep 12 = .ok (.lreturn, 1) := by decide +kernel
theorem dX21_keep_13 : decode cX21_keep 13 = .ok (.aload_n 0, 1) := by decide +kernel
theorem dX21_keep_14 : decode cX21_keep 14 = .ok (.aload_n 1, 1) := by decide +kernel
theorem dX21_keep_15 : decode cX21_keep 15 = .ok (.invokevirtual 69, 3) := by decide +kernel
theorem dX21_keep_18 : decode cX21_keep 18 = .ok (.lstore_n 2, 1) := by decide +kernel
theorem dX21_keep_19 : decode cX21_keep 19 = .ok (.lload_n 2, 1) := by decide +kernel
theorem dX21_keep_20 : decode cX21_keep 20 = .ok (.lconst 0, 1) := by decide +kernel
theorem dX21_keep_21 : decode cX21_keep 21 = .ok (.lcmp, 1) := by decide +kernel
theorem dX21_keep_22 : decode cX21_keep 22 = .ok (.ifCond .lt 16, 3) := by decide +kernel
theorem dX21_keep_25 : decode cX21_keep 25 = .ok (.aload_n 0, 1) := by decide +kernel
theorem dX21_keep_26 : decode cX21_keep 26 = .ok (.aload_n 1, 1) := by decide +kernel
theorem dX21_keep_27 : decode cX21_keep 27 = .ok (.lload_n 2, 1) := by decide +kernel
theorem dX21_keep_28 : decode cX21_keep 28 = .ok (.invokevirtual 73, 3) := by decide +kernel
theorem dX21_keep_31 : decode cX21_keep 31 = .ok (.ifCond .eq 7, 3) := by decide +kernel
theorem dX21_keep_34 : decode cX21_keep 34 = .ok (.lload_n 2, 1) := by decide +kernel
theorem dX21_keep_35 : decode cX21_keep 35 = .ok (.goto 6, 3) := by decide +kernel
theorem dX21_keep_38 : decode cX21_keep 38 = .ok (.ldc2_w 77, 3) := by decide +kernel
theorem dX21_keep_41 : decode cX21_keep 41 = .ok (.lreturn, 1) := by decide +kernel
theorem mw_X21_keep : MW yX21_keep (Cond.code yX21_keep cX21_keep 4 (Option.some Jvm.ClassFile.FieldType.long)) cX21_keep 4 (Option.some Jvm.ClassFile.FieldType.long) 1 := ⟨rfl, ⟨(lw_all_tbl q2256), rfl, (lw_all_tbl q201)⟩, rfl, ⟨by decide, by decide⟩, by decide +kernel⟩
theorem dX3_fill_0 : decode cX3_fill 0 = .ok (.lload_n 1, 1) := by decide +kernel
theorem dX3_fill_1 : decode cX3_fill 1 = .ok (.l2i, 1) := by decide +kernel
theorem dX3_fill_2 : decode cX3_fill 2 = .ok (.iload_n 3, 1) := by decide +kernel
theorem dX3_fill_3 : decode cX3_fill 3 = .ok (.iadd, 1) := by decide +kernel
theorem dX3_fill_4 : decode cX3_fill 4 = .ok (.istore 5, 2) := by decide +kernel
theorem dX3_fill_6 : decode cX3_fill 6 = .ok (.iconst 0, 1) := by decide +kernel
theorem dX3_fill_7 : decode cX3_fill 7 = .ok (.istore 6, 2) := by decide +kernel
theorem dX3_fill_9 : decode cX3_fill 9 = .ok (.iload 6, 2) := by decide +kernel
theorem dX3_fill_11 : decode cX3_fill 11 = .ok (.aload 4, 2) := by decide +kernel
theorem dX3_fill_13 : decode cX3_fill 13 = .ok (.arraylength, 1) := by decide +kernel
theorem dX3_fill_14 : decode cX3_fill 14 = .ok (.if_icmp .ge 41, 3) := by decide +kernel
theorem dX3_fill_17 : decode cX3_fill 17 = .ok (.aload 4, 2) := by decide +kernel
theorem dX3_fill_19 : decode cX3_fill 19 = .ok (.iload 6, 2) := by decide +kernel
theorem dX3_fill_21 : decode cX3_fill 21 = .ok (.aaload, 1) := by decide +kernel
theorem dX3_fill_22 : decode cX3_fill 22 = .ok (.aload_n 0, 1) := by decide +kernel
theorem dX3_fill_23 : decode cX3_fill 23 = .ok (.invokevirtual 158, 3) := by decide +kernel
theorem dX3_fill_26 : decode cX3_fill 26 = .ok (.lstore 7, 2) := by decide +kernel
theorem dX3_fill_28 : decode cX3_fill 28 = .ok (.lload 7, 2) := by decide +kernel
theorem dX3_fill_30 : decode cX3_fill 30 = .ok (.lconst 0, 1) := by decide +kernel
theorem dX3_fill_31 : decode cX3_fill 31 = .ok (.lcmp, 1) := by decide +kernel
theorem dX3_fill_32 : decode cX3_fill 32 = .ok (.ifCond .ge 5, 3) := by decide +kernel
theorem dX3_fill_35 : decode cX3_fill 35 = .ok (.iconst 0, 1) := by decide +kernel
theorem dX3_fill_36 : decode cX3_fill 36 = .ok (.ireturn, 1) := by decide +kernel
theorem dX3_fill_37 : decode cX3_fill 37 = .ok (.aload_n 0, 1) := by decide +kernel
theorem dX3_fill_38 : decode cX3_fill 38 = .ok (.getfield 42, 3) := by decide +kernel
theorem dX3_fill_41 : decode cX3_fill 41 = .ok (.iload 5, 2) := by decide +kernel
theorem dX3_fill_43 : decode cX3_fill 43 = .ok (.iload 6, 2) := by decide +kernel
theorem dX3_fill_45 : decode cX3_fill 45 = .ok (.iadd, 1) := by decide +kernel
theorem dX3_fill_46 : decode cX3_fill 46 = .ok (.lload 7, 2) := by decide +kernel
theorem dX3_fill_48 : decode cX3_fill 48 = .ok (.lastore, 1) := by decide +kernel
theorem dX3_fill_49 : decode cX3_fill 49 = .ok (.iinc 6 1, 3) := by decide +kernel
theorem dX3_fill_52 : decode cX3_fill 52 = .ok (.goto (-43), 3) := by decide +kernel
theorem dX3_fill_55 : decode cX3_fill 55 = .ok (.iconst 1, 1) := by decide +kernel
theorem dX3_fill_56 : decode cX3_fill 56 = .ok (.ireturn, 1) := by decide +kernel
theorem mw_X3_fill : MW yX3_fill (Cond.code yX3_fill cX3_fill 9 (Option.some Jvm.ClassFile.FieldType.boolean)) cX3_fill 9 (Option.some Jvm.ClassFile.FieldType.boolean) 3 := ⟨rfl, ⟨(lw_all_tbl q2281), rfl, (lw_all_tbl q165)⟩, rfl, ⟨by decide, by decide⟩, by decide +kernel⟩
def GR_keep (g : gC) (ts : TS) (d : Nat) (rc : Rc) : Prop := (∀ (l0 : Int) (l1 : Int) (l2 : Int), R64 l2 → SF g yX21_fill (Cond.code yX21_fill cX21_fill 4 (Option.some Jvm.ClassFile.FieldType.boolean)) (Option.some Jvm.ClassFile.FieldType.boolean) d [vA g l0, vA g l1, vJ l2] (fun h => (h, ts)) (rc 0 l0 l1 l2 0 0)) ∧ (∀ (l0 : Int) (l1 : Int), SF g yX21_keep (Cond.code yX21_keep cX21_keep 4 (Option.some Jvm.ClassFile.FieldType.long)) (Option.some Jvm.ClassFile.FieldType.long) d [vA g l0, vA g l1] (fun h => (h, ts)) (rc 1 l0 l1 0 0 0)) ∧ (∀ (l0 : Int) (l1 : Int) (l2 : Int), R64 l2 → SF g yX25_fill (Cond.code yX25_fill cX25_fill 4 (Option.some Jvm.ClassFile.FieldType.boolean)) (Option.some Jvm.ClassFile.FieldType.boolean) d [vA g l0, vA g l1, vJ l2] (fun h => (h, ts)) (rc 2 l0 l1 l2 0 0)) ∧ (∀ (l0 : Int) (l1 : Int), SF g yX25_keep (Cond.code yX25_keep cX25_keep 4 (Option.some Jvm.ClassFile.FieldType.long)) (Option.some Jvm.ClassFile.FieldType.long) d [vA g l0, vA g l1] (fun h => (h, ts)) (rc 3 l0 l1 0 0 0)) ∧ (∀ (l0 : Int) (l1 : Int) (l3 : Int) (l4 : Int), R64 l1 → R32 l3 → SF g yX3_fill (Cond.code yX3_fill cX3_fill 9 (Option.some Jvm.ClassFile.FieldType.boolean)) (Option.some Jvm.ClassFile.FieldType.boolean) d [vA g l0, vJ l1, vI l3, vA g l4] (fun h => (h, ts)) (rc 4 l0 l1 l3 l4 0)) ∧ (∀ (l0 : Int) (l1 : Int), VR g ts ⟨"LazyForge$Part", "keep", "(LLazyForge$Machine;)J"⟩ (some .long) 1 d l0 [vA g l1] (rc 5 l0 l1 0 0 0))
theorem gr_keep_0 {g : gC} {ts : TS} {d : Nat} {rc : Rc} (h : GR_keep g ts d rc) : (∀ (l0 : Int) (l1 : Int) (l2 : Int), R64 l2 → SF g yX21_fill (Cond.code yX21_fill cX21_fill 4 (Option.some Jvm.ClassFile.FieldType.boolean)) (Option.some Jvm.ClassFile.FieldType.boolean) d [vA g l0, vA g l1, vJ l2] (fun h => (h, ts)) (rc 0 l0 l1 l2 0 0)) := h.1
theorem gr_keep_1 {g : gC} {ts : TS} {d : Nat} {rc : Rc} (h : GR_keep g ts d rc) : (∀ (l0 : Int) (l1 : Int), SF g yX21_keep (Cond.code yX21_keep cX21_keep 4 (Option.some Jvm.ClassFile.FieldType.long)) (Option.some Jvm.ClassFile.FieldType.long) d [vA g l0, vA g l1] (fun h => (h, ts)) (rc 1 l0 l1 0 0 0)) := h.2.1
theorem gr_keep_2 {g : gC} {ts : TS} {d : Nat} {rc : Rc} (h : GR_keep g ts d rc) : (∀ (l0 : Int) (l1 : Int) (l2 : Int), R64 l2 → SF g yX25_fill (Cond.code yX25_fill cX25_fill 4 (Option.some Jvm.ClassFile.FieldType.boolean)) (Option.some Jvm.ClassFile.FieldType.boolean) d [vA g l0, vA g l1, vJ l2] (fun h => (h, ts)) (rc 2 l0 l1 l2 0 0)) := h.2.2.1
theorem gr_keep_3 {g : gC} {ts : TS} {d : Nat} {rc : Rc} (h : GR_keep g ts d rc) : (∀ (l0 : Int) (l1 : Int), SF g yX25_keep (Cond.code yX25_keep cX25_keep 4 (Option.some Jvm.ClassFile.FieldType.long)) (Option.some Jvm.ClassFile.FieldType.long) d [vA g l0, vA g l1] (fun h => (h, ts)) (rc 3 l0 l1 0 0 0)) := h.2.2.2.1
theorem gr_keep_4 {g : gC} {ts : TS} {d : Nat} {rc : Rc} (h : GR_keep g ts d rc) : (∀ (l0 : Int) (l1 : Int) (l3 : Int) (l4 : Int), R64 l1 → R32 l3 → SF g yX3_fill (Cond.code yX3_fill cX3_fill 9 (Option.some Jvm.ClassFile.FieldType.boolean)) (Option.some Jvm.ClassFile.FieldType.boolean) d [vA g l0, vJ l1, vI l3, vA g l4] (fun h => (h, ts)) (rc 4 l0 l1 l3 l4 0)) := h.2.2.2.2.1
theorem gr_keep_5 {g : gC} {ts : TS} {d : Nat} {rc : Rc} (h : GR_keep g ts d rc) : (∀ (l0 : Int) (l1 : Int), VR g ts ⟨"LazyForge$Part", "keep", "(LLazyForge$Machine;)J"⟩ (some .long) 1 d l0 [vA g l1] (rc 5 l0 l1 0 0 0)) := h.2.2.2.2.2
noncomputable def b_X25_fill (rc : Rc) (l0 : Int) (l1 : Int) (l2 : Int) : Mo CH Int :=
  bnd (gf [125] 6 l0) fun v1 =>
  bnd (isk 103 l1) fun _ =>
  bnd (rc 4 l1 l2 1 v1 0) fun v2 =>
  pr v2
theorem sb_X25_fill (g : gC) (d : Nat) (ts : TS) (rc : Rc) (hr : GR_keep g ts (d + 5) rc) (l0 : Int) (l1 : Int) (l2 : Int) (hl2 : R64 l2) : SF g yX25_fill (Cond.code yX25_fill cX25_fill 4 (Option.some Jvm.ClassFile.FieldType.boolean)) (Option.some Jvm.ClassFile.FieldType.boolean) (d + 6) [vA g l0, vA g l1, vJ l2] (fun h => (h, ts)) (b_X25_fill rc l0 l1 l2) := by
  refine SF.of (lv := [(0, vA g l0), (1, vA g l1), (2, vJ l2)]) (by decide) (wt_A (wt_A (wt_J wt_0))) rfl (by simp only [la_A, la_I, la_J, la_0]) (fun Γ hg hnm o => ?_)
  subst hg
  have o : Ok Γ "LazyForge$Made" cX25_fill 4 (Option.some Jvm.ClassFile.FieldType.boolean) (d + 6) := o
  unfold b_X25_fill
  refine s_aload_n o dX25_fill_0 rfl 1 rfl ?_
  refine s_lload_n o dX25_fill_1 rfl 2 rfl ?_
  refine s_iconst o dX25_fill_2 ?_
  refine s_aload_n o dX25_fill_3 rfl 0 rfl ?_
  refine r_getf (vA (mg Γ)) rfl o cf_X25_fields (Or.inl (lw_all_tbl q1569)) dX25_fill_4 (fun v1 hv1 => ?_)
  refine s_cvC (d := d + 5) (As := [vJ l2, vI 1, vA (mg Γ) v1]) (st := []) (c := 3) o (gr_keep_4 hr l1 l2 1 v1 hl2 (r32 rfl)) mw_X3_fill rfl (Or.inl (lw_all_tbl q2308)) rfl (lw_all_tbl q2280) (lw_all_tbl q2279) wt_0 rfl dX25_fill_7 rfl (rs := fun r => [vI r]) (fun _ => rfl) (fun v2 hv2 => ?_)
  exact s_iret o rfl i_boolean (hv2 _ rfl) dX25_fill_10 (fun _ hh => hh)
noncomputable def b_X25_keep (rc : Rc) (l0 : Int) (l1 : Int) : Mo CH Int :=
  bnd (isk 125 l0) fun _ =>
  bnd (c_X25_begin l0 l1) fun v1 =>
  if v1 < 0 then
    pr (-1)
  else
    bnd (isk 125 l0) fun _ =>
    bnd (rc 2 l0 l1 v1 0 0) fun v2 =>
    if v2 = 0 then
      pr (-1)
    else
      pr v1
theorem sb_X25_keep (g : gC) (d : Nat) (ts : TS) (rc : Rc) (hr : GR_keep g ts (d + 5) rc) (l0 : Int) (l1 : Int) : SF g yX25_keep (Cond.code yX25_keep cX25_keep 4 (Option.some Jvm.ClassFile.FieldType.long)) (Option.some Jvm.ClassFile.FieldType.long) (d + 6) [vA g l0, vA g l1] (fun h => (h, ts)) (b_X25_keep rc l0 l1) := by
  refine SF.of (lv := [(0, vA g l0), (1, vA g l1)]) (by decide) (wt_A (wt_A wt_0)) rfl (by simp only [la_A, la_I, la_J, la_0]) (fun Γ hg hnm o => ?_)
  subst hg
  have o : Ok Γ "LazyForge$Made" cX25_keep 4 (Option.some Jvm.ClassFile.FieldType.long) (d + 6) := o
  unfold b_X25_keep
  refine s_aload_n o dX25_keep_0 rfl 0 rfl ?_
  refine s_aload_n o dX25_keep_1 rfl 1 rfl ?_
  refine s_cvC (d := d + 5) (As := [vA (mg Γ) l1]) (st := []) (c := 25) o (sc_X25_begin (mg Γ) (d + 2) ts l0 l1) mw_X25_begin rfl (Or.inl (lw_all_tbl q2295)) rfl (lw_all_tbl q2297) (lw_all_tbl q2296) wt_0 rfl dX25_keep_2 rfl (rs := fun r => [vJ r]) (fun _ => rfl) (fun v1 hv1 => ?_)
  refine r_lstore_n o dX25_keep_5 rfl rfl ⟨(Nat.ne_of_beq_eq_false rfl), (Nat.ne_of_beq_eq_false rfl), (fun _ => (vA_cat (mg Γ) l0)), ⟨(Nat.ne_of_beq_eq_false rfl), (Nat.ne_of_beq_eq_false rfl), (fun _ => (vA_cat (mg Γ) l1)), trivial⟩⟩ ?_
  refine s_lload_n o dX25_keep_6 rfl 0 rfl ?_
  refine s_lconst (x := 0) o dX25_keep_7 rfl ?_
  refine s_lcmp_lt (tgt := 25) o dX25_keep_8 dX25_keep_9 (by decide) (hv1 _ rfl) (r64 rfl) ?_ ?_
  · refine s_ldc2 (n := -1) o dX25_keep_25 (lw_all_tbl q2309) rfl ?_
    exact s_lret o rfl (r64 rfl) dX25_keep_28 (fun _ hh => hh)
  · refine s_aload_n o dX25_keep_12 rfl 1 rfl ?_
    refine s_aload_n o dX25_keep_13 rfl 2 rfl ?_
    refine s_lload_n o dX25_keep_14 rfl 0 rfl ?_
    refine s_cvC (d := d + 5) (As := [vA (mg Γ) l1, vJ v1]) (st := []) (c := 25) o (gr_keep_2 hr l0 l1 v1 (hv1 _ rfl)) mw_X25_fill rfl (Or.inl (lw_all_tbl q2304)) rfl (lw_all_tbl q2306) (lw_all_tbl q2305) wt_0 rfl dX25_keep_15 rfl (rs := fun r => [vI r]) (fun _ => rfl) (fun v2 hv2 => ?_)
    refine s_if_eq (tgt := 25) o dX25_keep_18 (by decide) (rZ (hv2 _ rfl)) ?_ ?_
    · refine s_ldc2 (n := -1) o dX25_keep_25 (lw_all_tbl q2309) rfl ?_
      exact s_lret o rfl (r64 rfl) dX25_keep_28 (fun _ hh => hh)
    · refine s_lload_n o dX25_keep_21 rfl 0 rfl ?_
      refine s_goto (tgt := 28) o dX25_keep_22 (by decide) ?_
      exact s_lret o rfl (hv1 _ rfl) dX25_keep_28 (fun _ hh => hh)
noncomputable def b_X21_fill (rc : Rc) (l0 : Int) (l1 : Int) (l2 : Int) : Mo CH Int :=
  bnd (gf [121] 6 l0) fun v1 =>
  bnd (isk 103 l1) fun _ =>
  bnd (rc 4 l1 l2 2 v1 0) fun v2 =>
  pr v2
theorem sb_X21_fill (g : gC) (d : Nat) (ts : TS) (rc : Rc) (hr : GR_keep g ts (d + 5) rc) (l0 : Int) (l1 : Int) (l2 : Int) (hl2 : R64 l2) : SF g yX21_fill (Cond.code yX21_fill cX21_fill 4 (Option.some Jvm.ClassFile.FieldType.boolean)) (Option.some Jvm.ClassFile.FieldType.boolean) (d + 6) [vA g l0, vA g l1, vJ l2] (fun h => (h, ts)) (b_X21_fill rc l0 l1 l2) := by
  refine SF.of (lv := [(0, vA g l0), (1, vA g l1), (2, vJ l2)]) (by decide) (wt_A (wt_A (wt_J wt_0))) rfl (by simp only [la_A, la_I, la_J, la_0]) (fun Γ hg hnm o => ?_)
  subst hg
  have o : Ok Γ "LazyForge$Apply" cX21_fill 4 (Option.some Jvm.ClassFile.FieldType.boolean) (d + 6) := o
  unfold b_X21_fill
  refine s_aload_n o dX21_fill_0 rfl 1 rfl ?_
  refine s_lload_n o dX21_fill_1 rfl 2 rfl ?_
  refine s_iconst o dX21_fill_2 ?_
  refine s_aload_n o dX21_fill_3 rfl 0 rfl ?_
  refine r_getf (vA (mg Γ)) rfl o cf_X21_arguments (Or.inl (lw_all_tbl q1469)) dX21_fill_4 (fun v1 hv1 => ?_)
  refine s_cvC (d := d + 5) (As := [vJ l2, vI 2, vA (mg Γ) v1]) (st := []) (c := 3) o (gr_keep_4 hr l1 l2 2 v1 hl2 (r32 rfl)) mw_X3_fill rfl (Or.inl (lw_all_tbl q2278)) rfl (lw_all_tbl q2280) (lw_all_tbl q2279) wt_0 rfl dX21_fill_7 rfl (rs := fun r => [vI r]) (fun _ => rfl) (fun v2 hv2 => ?_)
  exact s_iret o rfl i_boolean (hv2 _ rfl) dX21_fill_10 (fun _ hh => hh)
noncomputable def b_X21_keep (rc : Rc) (l0 : Int) (l1 : Int) : Mo CH Int :=
  bnd (isk 121 l0) fun _ =>
  bnd (c_X21_isLess l0) fun v1 =>
  if ¬ v1 = 0 then
    bnd (isk 121 l0) fun _ =>
    bnd (c_X21_begin l0 l1) fun v2 =>
    if v2 < 0 then
      pr (-1)
    else
      bnd (isk 121 l0) fun _ =>
      bnd (rc 0 l0 l1 v2 0 0) fun v3 =>
      if v3 = 0 then
        pr (-1)
      else
        pr v2
  else
    bnd (isk 103 l1) fun _ =>
    bnd (c_X3_suspend l1 l0) fun v4 =>
    pr v4
theorem sb_X21_keep (g : gC) (d : Nat) (ts : TS) (rc : Rc) (hr : GR_keep g ts (d + 5) rc) (l0 : Int) (l1 : Int) : SF g yX21_keep (Cond.code yX21_keep cX21_keep 4 (Option.some Jvm.ClassFile.FieldType.long)) (Option.some Jvm.ClassFile.FieldType.long) (d + 6) [vA g l0, vA g l1] (fun h => (h, ts)) (b_X21_keep rc l0 l1) := by
  refine SF.of (lv := [(0, vA g l0), (1, vA g l1)]) (by decide) (wt_A (wt_A wt_0)) rfl (by simp only [la_A, la_I, la_J, la_0]) (fun Γ hg hnm o => ?_)
  subst hg
  have o : Ok Γ "LazyForge$Apply" cX21_keep 4 (Option.some Jvm.ClassFile.FieldType.long) (d + 6) := o
  unfold b_X21_keep
  refine s_aload_n o dX21_keep_0 rfl 0 rfl ?_
  refine s_cvC (d := d + 5) (As := []) (st := []) (c := 21) o (sc_X21_isLess (mg Γ) (d + 1) ts l0) mw_X21_isLess rfl (Or.inl (lw_all_tbl q1869)) rfl (lw_all_tbl q1871) (lw_all_tbl q1870) wt_0 rfl dX21_keep_1 rfl (rs := fun r => [vI r]) (fun _ => rfl) (fun v1 hv1 => ?_)
  refine s_if_ne (tgt := 13) o dX21_keep_4 (by decide) (rZ (hv1 _ rfl)) ?_ ?_
  · refine s_aload_n o dX21_keep_13 rfl 0 rfl ?_
    refine s_aload_n o dX21_keep_14 rfl 1 rfl ?_
    refine s_cvC (d := d + 5) (As := [vA (mg Γ) l1]) (st := []) (c := 21) o (sc_X21_begin (mg Γ) (d + 1) ts l0 l1) mw_X21_begin rfl (Or.inl (lw_all_tbl q2269)) rfl (lw_all_tbl q2271) (lw_all_tbl q2270) wt_0 rfl dX21_keep_15 rfl (rs := fun r => [vJ r]) (fun _ => rfl) (fun v2 hv2 => ?_)
    refine r_lstore_n o dX21_keep_18 rfl rfl ⟨(Nat.ne_of_beq_eq_false rfl), (Nat.ne_of_beq_eq_false rfl), (fun _ => (vA_cat (mg Γ) l0)), ⟨(Nat.ne_of_beq_eq_false rfl), (Nat.ne_of_beq_eq_false rfl), (fun _ => (vA_cat (mg Γ) l1)), trivial⟩⟩ ?_
    refine s_lload_n o dX21_keep_19 rfl 0 rfl ?_
    refine s_lconst (x := 0) o dX21_keep_20 rfl ?_
    refine s_lcmp_lt (tgt := 38) o dX21_keep_21 dX21_keep_22 (by decide) (hv2 _ rfl) (r64 rfl) ?_ ?_
    · refine s_ldc2 (n := -1) o dX21_keep_38 (lw_all_tbl q2323) rfl ?_
      exact s_lret o rfl (r64 rfl) dX21_keep_41 (fun _ hh => hh)
    · refine s_aload_n o dX21_keep_25 rfl 1 rfl ?_
      refine s_aload_n o dX21_keep_26 rfl 2 rfl ?_
      refine s_lload_n o dX21_keep_27 rfl 0 rfl ?_
      refine s_cvC (d := d + 5) (As := [vA (mg Γ) l1, vJ v2]) (st := []) (c := 21) o (gr_keep_0 hr l0 l1 v2 (hv2 _ rfl)) mw_X21_fill rfl (Or.inl (lw_all_tbl q2274)) rfl (lw_all_tbl q2276) (lw_all_tbl q2275) wt_0 rfl dX21_keep_28 rfl (rs := fun r => [vI r]) (fun _ => rfl) (fun v3 hv3 => ?_)
      refine s_if_eq (tgt := 38) o dX21_keep_31 (by decide) (rZ (hv3 _ rfl)) ?_ ?_
      · refine s_ldc2 (n := -1) o dX21_keep_38 (lw_all_tbl q2323) rfl ?_
        exact s_lret o rfl (r64 rfl) dX21_keep_41 (fun _ hh => hh)
      · refine s_lload_n o dX21_keep_34 rfl 0 rfl ?_
        refine s_goto (tgt := 41) o dX21_keep_35 (by decide) ?_
        exact s_lret o rfl (hv2 _ rfl) dX21_keep_41 (fun _ hh => hh)
  · refine s_aload_n o dX21_keep_7 rfl 1 rfl ?_
    refine s_aload_n o dX21_keep_8 rfl 0 rfl ?_
    refine s_cvC (d := d + 5) (As := [vA (mg Γ) l0]) (st := []) (c := 3) o (sc_X3_suspend (mg Γ) (d + 2) ts l1 l0) mw_X3_suspend rfl (Or.inl (lw_all_tbl q2257)) rfl (lw_all_tbl q2259) (lw_all_tbl q2258) wt_0 rfl dX21_keep_9 rfl (rs := fun r => [vJ r]) (fun _ => rfl) (fun v4 hv4 => ?_)
    exact s_lret o rfl (hv4 _ rfl) dX21_keep_12 (fun _ hh => hh)
abbrev okb_X3_fill_9 (x : Int × Int × Int × Int) : Prop := R32 x.2.2.1 ∧ R32 x.2.2.2
abbrev lvb_X3_fill_9 (Γ : Gm) (x : Int × Int × Int × Int) : List (Nat × Value) := [(0, vA (mg Γ) x.1), (4, vA (mg Γ) x.2.1), (5, vI x.2.2.1), (6, vI x.2.2.2)]
noncomputable def b_X3_fill_9b (rc : Rc) {A : Type} (k_35 : Mo CH A) (k_55 : Mo CH A) (l0 : Int) (l4 : Int) (l5 : Int) (l6 : Int) : Mo CH ((Int × Int × Int × Int) ⊕ A) :=
  bnd (aln l4) fun v1 =>
  if v1 ≤ l6 then
    lo k_55
  else
    bnd (ald 5 l4 l6) fun v2 =>
    bnd (rc 5 v2 l0 0 0 0) fun v3 =>
    if 0 ≤ v3 then
      bnd (gf [103] 5 l0) fun v4 =>
      bnd (ast 1 v4 (w32 (l5 + l6)) v3) fun _ =>
      pr (.inl (l0, l4, l5, (w32 (l6 + 1))))
    else
      lo k_35
theorem sb_X3_fill_9b {Γ : Gm} {ts : TS} {d : Nat} {rc : Rc} (hr : GR_keep (mg Γ) ts (d + 5) rc) (o : Ok Γ "LazyForge$Machine" cX3_fill 9 (Option.some Jvm.ClassFile.FieldType.boolean) (d + 6)) {A : Type} {K : A → CH → Prop} (k_35 : Mo CH A) (k_55 : Mo CH A) (hk_35 : Sx Γ (fun h => (h, ts)) K 35 [] [] (k_35)) (hk_55 : Sx Γ (fun h => (h, ts)) K 55 [] [] (k_55)) (l0 : Int) (l4 : Int) (l5 : Int) (l6 : Int) (hl5 : R32 l5) (hl6 : R32 l6) : Sx Γ (fun h => (h, ts)) (KL Γ (fun h => (h, ts)) okb_X3_fill_9 K 9 (lvb_X3_fill_9 Γ) []) 9 [(0, vA (mg Γ) l0), (4, vA (mg Γ) l4), (5, vI l5), (6, vI l6)] [] (b_X3_fill_9b rc k_35 k_55 l0 l4 l5 l6) := by
  unfold b_X3_fill_9b
  refine s_iload o dX3_fill_9 3 rfl ?_
  refine s_aload o dX3_fill_11 1 rfl ?_
  refine s_alen o dX3_fill_13 (fun v1 hv1 => ?_)
  refine s_icmp_ge (tgt := 55) o dX3_fill_14 (by decide) hl6 (rN hv1) ?_ ?_
  · refine r_to [] [] rfl ?_
    exact s_lo hk_55
  · refine s_aload o dX3_fill_17 1 rfl ?_
    refine s_iload o dX3_fill_19 3 rfl ?_
    refine r_aald (kd := 5) o (by decide) rfl hl6 dX3_fill_21 (fun v2 => ?_)
    refine s_aload_n o dX3_fill_22 rfl 0 rfl ?_
    refine s_cu (d := d + 5) (As := [vA (mg Γ) l0]) (st := []) (owner := "LazyForge$Part") o (gr_keep_5 hr v2 l0) rfl (lw_all_tbl q2247) (lw_all_tbl q2249) (Or.inl q2248) ⟨by decide, by decide⟩ (by decide +kernel) wt_0 rfl dX3_fill_23 rfl (rs := fun r => [vJ r]) (fun _ => rfl) (fun v3 hv3 => ?_)
    refine r_lstore o dX3_fill_26 rfl ⟨(Nat.ne_of_beq_eq_false rfl), (Nat.ne_of_beq_eq_false rfl), (fun _ => (vA_cat (mg Γ) l0)), ⟨(Nat.ne_of_beq_eq_false rfl), (Nat.ne_of_beq_eq_false rfl), (fun _ => (vA_cat (mg Γ) l4)), ⟨(Nat.ne_of_beq_eq_false rfl), (Nat.ne_of_beq_eq_false rfl), (fun _ => rfl), ⟨(Nat.ne_of_beq_eq_false rfl), (Nat.ne_of_beq_eq_false rfl), (fun _ => rfl), trivial⟩⟩⟩⟩ ?_
    refine s_lload o dX3_fill_28 0 rfl ?_
    refine s_lconst (x := 0) o dX3_fill_30 rfl ?_
    refine s_lcmp_ge (tgt := 37) o dX3_fill_31 dX3_fill_32 (by decide) (hv3 _ rfl) (r64 rfl) ?_ ?_
    · refine s_aload_n o dX3_fill_37 rfl 1 rfl ?_
      refine r_getf (vA (mg Γ)) rfl o cf_X3_cells (Or.inl (lw_all_tbl q333)) dX3_fill_38 (fun v4 hv4 => ?_)
      refine s_iload o dX3_fill_41 3 rfl ?_
      refine s_iload o dX3_fill_43 4 rfl ?_
      refine s_iadd o dX3_fill_45 ?_
      refine s_lload o dX3_fill_46 0 rfl ?_
      refine r_last o (w32_R _) (hv3 _ rfl) dX3_fill_48 ?_
      refine r_iinc (j := 4) o dX3_fill_49 rfl rfl [(7, vJ v3), (0, vA (mg Γ) l0), (4, vA (mg Γ) l4), (5, vI l5)] [0, 1, 2, 3] rfl ⟨(Nat.ne_of_beq_eq_false rfl), (fun e => absurd e (Nat.ne_of_beq_eq_false rfl)), ⟨(Nat.ne_of_beq_eq_false rfl), (fun _ => (vA_cat (mg Γ) l0)), ⟨(Nat.ne_of_beq_eq_false rfl), (fun _ => (vA_cat (mg Γ) l4)), ⟨(Nat.ne_of_beq_eq_false rfl), (fun _ => rfl), trivial⟩⟩⟩⟩ ?_
      refine s_goto (tgt := 9) o dX3_fill_52 (by decide) ?_
      refine r_to [(0, vA (mg Γ) l0), (4, vA (mg Γ) l4), (5, vI l5), (6, vI (w32 (l6 + 1)))] [2, 3, 4, 0] rfl ?_
      exact s_back (⟨hl5, (w32_R _)⟩) rfl
    · refine r_to [] [] rfl ?_
      exact s_lo hk_35
noncomputable def b_X3_fill_9 (rc : Rc) {A : Type} (k_35 : Mo CH A) (k_55 : Mo CH A) (l0 : Int) (l4 : Int) (l5 : Int) (l6 : Int) : Mo CH A := Loop (fun x => b_X3_fill_9b rc k_35 k_55 x.1 x.2.1 x.2.2.1 x.2.2.2) (l0, l4, l5, l6)
theorem sb_X3_fill_9 {Γ : Gm} {ts : TS} {d : Nat} {rc : Rc} (hr : GR_keep (mg Γ) ts (d + 5) rc) (o : Ok Γ "LazyForge$Machine" cX3_fill 9 (Option.some Jvm.ClassFile.FieldType.boolean) (d + 6)) {A : Type} {K : A → CH → Prop} (k_35 : Mo CH A) (k_55 : Mo CH A) (hk_35 : Sx Γ (fun h => (h, ts)) K 35 [] [] (k_35)) (hk_55 : Sx Γ (fun h => (h, ts)) K 55 [] [] (k_55)) (l0 : Int) (l4 : Int) (l5 : Int) (l6 : Int) (hl5 : R32 l5) (hl6 : R32 l6) : Sx Γ (fun h => (h, ts)) K 9 [(0, vA (mg Γ) l0), (4, vA (mg Γ) l4), (5, vI l5), (6, vI l6)] [] (b_X3_fill_9 rc k_35 k_55 l0 l4 l5 l6) :=
  s_loop okb_X3_fill_9 (lvb_X3_fill_9 Γ) (fun x hx => sb_X3_fill_9b hr o k_35 k_55 hk_35 hk_55 x.1 x.2.1 x.2.2.1 x.2.2.2 hx.1 hx.2) (x := (l0, l4, l5, l6)) ⟨hl5, hl6⟩
noncomputable def b_X3_fill (rc : Rc) (l0 : Int) (l1 : Int) (l3 : Int) (l4 : Int) : Mo CH Int :=
  b_X3_fill_9 rc
    (pr 0)
    (pr 1) l0 l4 (w32 ((l2i l1) + l3)) 0
theorem sb_X3_fill (g : gC) (d : Nat) (ts : TS) (rc : Rc) (hr : GR_keep g ts (d + 5) rc) (l0 : Int) (l1 : Int) (l3 : Int) (l4 : Int) (hl1 : R64 l1) (hl3 : R32 l3) : SF g yX3_fill (Cond.code yX3_fill cX3_fill 9 (Option.some Jvm.ClassFile.FieldType.boolean)) (Option.some Jvm.ClassFile.FieldType.boolean) (d + 6) [vA g l0, vJ l1, vI l3, vA g l4] (fun h => (h, ts)) (b_X3_fill rc l0 l1 l3 l4) := by
  refine SF.of (lv := [(0, vA g l0), (1, vJ l1), (3, vI l3), (4, vA g l4)]) (by decide) (wt_A (wt_J (wt_I (wt_A wt_0)))) rfl (by simp only [la_A, la_I, la_J, la_0]) (fun Γ hg hnm o => ?_)
  subst hg
  have o : Ok Γ "LazyForge$Machine" cX3_fill 9 (Option.some Jvm.ClassFile.FieldType.boolean) (d + 6) := o
  unfold b_X3_fill
  refine s_lload_n o dX3_fill_0 rfl 1 rfl ?_
  refine s_l2i o dX3_fill_1 ?_
  refine s_iload_n o dX3_fill_2 rfl 2 rfl ?_
  refine s_iadd o dX3_fill_3 ?_
  refine r_istore o dX3_fill_4 rfl ⟨(Nat.ne_of_beq_eq_false rfl), (fun _ => (vA_cat (mg Γ) l0)), ⟨(Nat.ne_of_beq_eq_false rfl), (fun e => absurd e (Nat.ne_of_beq_eq_false rfl)), ⟨(Nat.ne_of_beq_eq_false rfl), (fun _ => rfl), ⟨(Nat.ne_of_beq_eq_false rfl), (fun _ => (vA_cat (mg Γ) l4)), trivial⟩⟩⟩⟩ ?_
  refine s_iconst o dX3_fill_6 ?_
  refine r_istore o dX3_fill_7 rfl ⟨(Nat.ne_of_beq_eq_false rfl), (fun _ => rfl), ⟨(Nat.ne_of_beq_eq_false rfl), (fun _ => (vA_cat (mg Γ) l0)), ⟨(Nat.ne_of_beq_eq_false rfl), (fun e => absurd e (Nat.ne_of_beq_eq_false rfl)), ⟨(Nat.ne_of_beq_eq_false rfl), (fun _ => rfl), ⟨(Nat.ne_of_beq_eq_false rfl), (fun _ => (vA_cat (mg Γ) l4)), trivial⟩⟩⟩⟩⟩ ?_
  refine r_to [(0, vA (mg Γ) l0), (4, vA (mg Γ) l4), (5, vI (w32 ((l2i l1) + l3))), (6, vI 0)] [2, 5, 1, 0] rfl ?_
  refine sb_X3_fill_9 hr o _ _ ?_ ?_ l0 l4 (w32 ((l2i l1) + l3)) 0 (w32_R _) (r32 rfl)
  · refine s_iconst o dX3_fill_35 ?_
    exact s_iret o rfl i_boolean (Or.inl rfl) dX3_fill_36 (fun _ hh => hh)
  · refine s_iconst o dX3_fill_55 ?_
    exact s_iret o rfl i_boolean (Or.inr rfl) dX3_fill_56 (fun _ hh => hh)
noncomputable def v_X4_keep_b (rc : Rc) (l0 : Int) (l1 : Int) : Mo CH Int := dsp l0 [([106, 107, 108, 109, 110], c_X5_keep l0 l1), ([118], c_X18_keep l0 l1), ([119], c_X19_keep l0 l1), ([120], c_X20_keep l0 l1), ([121], b_X21_keep rc l0 l1), ([122], c_X22_keep l0 l1), ([123], c_X23_keep l0 l1), ([124], c_X24_keep l0 l1), ([125], b_X25_keep rc l0 l1), ([126], c_X26_keep l0 l1)]
theorem sv_X4_keep_b (g : gC) (d : Nat) (ts : TS) (rc : Rc) (hr : GR_keep g ts (d + 5) rc) (l0 : Int) (l1 : Int) : VR g ts ⟨"LazyForge$Part", "keep", "(LLazyForge$Machine;)J"⟩ (some .long) 1 (d + 6) l0 [vA g l1] (v_X4_keep_b rc l0 l1) := (VR.cons (x0 := ⟨"LazyForge$Part", "keep", "(LLazyForge$Machine;)J"⟩) ⟨⟨6, _, rfl, rfl, (lw_all_tbl q2334)⟩, ⟨⟨7, _, rfl, rfl, (lw_all_tbl q2328)⟩, ⟨⟨8, _, rfl, rfl, (lw_all_tbl q2250)⟩, ⟨⟨9, _, rfl, rfl, (lw_all_tbl q2325)⟩, ⟨⟨10, _, rfl, rfl, (lw_all_tbl q2327)⟩, trivial⟩⟩⟩⟩⟩ (lw_all_tbl q2251) mw_X5_keep (sc_X5_keep g (d + 6) ts l0 l1) (VR.cons (x0 := ⟨"LazyForge$Part", "keep", "(LLazyForge$Machine;)J"⟩) ⟨⟨18, _, rfl, rfl, (lw_all_tbl q2329)⟩, trivial⟩ (lw_all_tbl q2288) mw_X18_keep (sc_X18_keep g (d + 2) ts l0 l1) (VR.cons (x0 := ⟨"LazyForge$Part", "keep", "(LLazyForge$Machine;)J"⟩) ⟨⟨19, _, rfl, rfl, (lw_all_tbl q2332)⟩, trivial⟩ (lw_all_tbl q2310) mw_X19_keep (sc_X19_keep g (d + 3) ts l0 l1) (VR.cons (x0 := ⟨"LazyForge$Part", "keep", "(LLazyForge$Machine;)J"⟩) ⟨⟨20, _, rfl, rfl, (lw_all_tbl q2335)⟩, trivial⟩ (lw_all_tbl q2320) mw_X20_keep (sc_X20_keep g (d + 5) ts l0 l1) (VR.cons (x0 := ⟨"LazyForge$Part", "keep", "(LLazyForge$Machine;)J"⟩) ⟨⟨21, _, rfl, rfl, (lw_all_tbl q2254)⟩, trivial⟩ (lw_all_tbl q2255) mw_X21_keep (sb_X21_keep g d ts rc hr l0 l1) (VR.cons (x0 := ⟨"LazyForge$Part", "keep", "(LLazyForge$Machine;)J"⟩) ⟨⟨22, _, rfl, rfl, (lw_all_tbl q2324)⟩, trivial⟩ (lw_all_tbl q2282) mw_X22_keep (sc_X22_keep g (d + 2) ts l0 l1) (VR.cons (x0 := ⟨"LazyForge$Part", "keep", "(LLazyForge$Machine;)J"⟩) ⟨⟨23, _, rfl, rfl, (lw_all_tbl q2333)⟩, trivial⟩ (lw_all_tbl q2317) mw_X23_keep (sc_X23_keep g (d + 2) ts l0 l1) (VR.cons (x0 := ⟨"LazyForge$Part", "keep", "(LLazyForge$Machine;)J"⟩) ⟨⟨24, _, rfl, rfl, (lw_all_tbl q2330)⟩, trivial⟩ (lw_all_tbl q2291) mw_X24_keep (sc_X24_keep g (d + 6) ts l0 l1) (VR.cons (x0 := ⟨"LazyForge$Part", "keep", "(LLazyForge$Machine;)J"⟩) ⟨⟨25, _, rfl, rfl, (lw_all_tbl q2331)⟩, trivial⟩ (lw_all_tbl q2293) mw_X25_keep (sb_X25_keep g d ts rc hr l0 l1) (VR.cons (x0 := ⟨"LazyForge$Part", "keep", "(LLazyForge$Machine;)J"⟩) ⟨⟨26, _, rfl, rfl, (lw_all_tbl q2326)⟩, trivial⟩ (lw_all_tbl q2285) mw_X26_keep (sc_X26_keep g (d + 2) ts l0 l1) VR.nil))))))))))
noncomputable def G_keep (rc : Rc) : Rc := fun j a0 a1 a2 a3 a4 => match j with
  | 0 => b_X21_fill rc a0 a1 a2
  | 1 => b_X21_keep rc a0 a1
  | 2 => b_X25_fill rc a0 a1 a2
  | 3 => b_X25_keep rc a0 a1
  | 4 => b_X3_fill rc a0 a1 a2 a3
  | 5 => v_X4_keep_b rc a0 a1
  | _ => no
noncomputable def R_keep : Nat → Rc
  | 0 => fun _ _ _ _ _ _ => no
  | n + 1 => G_keep (R_keep n)
theorem G_keep_ok (g : gC) (ts : TS) (d : Nat) (rc : Rc) (hr : GR_keep g ts (d + 5) rc) : GR_keep g ts (d + 6) (G_keep rc) := ⟨(fun l0 l1 l2 hl2 => sb_X21_fill g d ts rc hr l0 l1 l2 hl2), (fun l0 l1 => sb_X21_keep g d ts rc hr l0 l1), (fun l0 l1 l2 hl2 => sb_X25_fill g d ts rc hr l0 l1 l2 hl2), (fun l0 l1 => sb_X25_keep g d ts rc hr l0 l1), (fun l0 l1 l3 l4 hl1 hl3 => sb_X3_fill g d ts rc hr l0 l1 l3 l4 hl1 hl3), (fun l0 l1 => sv_X4_keep_b g d ts rc hr l0 l1)⟩
theorem R_keep_ok (g : gC) (ts : TS) : ∀ n d, GR_keep g ts (d + 5 + n) (R_keep n)
  | 0, d => ⟨(fun _ _ _ _ _ _ _ e => by cases e), (fun _ _ _ _ _ e => by cases e), (fun _ _ _ _ _ _ _ e => by cases e), (fun _ _ _ _ _ e => by cases e), (fun _ _ _ _ _ _ _ _ _ e => by cases e), (fun _ _ _ _ _ e => by cases e)⟩
  | n + 1, d => by
    have h := R_keep_ok g ts n d
    rw [show d + 5 + n = (d + n) + 5 by omega] at h
    have h := G_keep_ok g ts _ _ h
    rw [show d + 5 + (n + 1) = (d + n) + 6 by omega]
    exact h
noncomputable def c_X21_fill (l0 : Int) (l1 : Int) (l2 : Int) : Mo CH Int := R_keep 200 0 l0 l1 l2 0 0
theorem sc_X21_fill (g : gC) (d : Nat) (ts : TS) (l0 : Int) (l1 : Int) (l2 : Int) (hl2 : R64 l2) : SF g yX21_fill (Cond.code yX21_fill cX21_fill 4 (Option.some Jvm.ClassFile.FieldType.boolean)) (Option.some Jvm.ClassFile.FieldType.boolean) (d + 205) [vA g l0, vA g l1, vJ l2] (fun h => (h, ts)) (c_X21_fill l0 l1 l2) := by
  have h := R_keep_ok g ts 200 d
  rw [Nat.add_assoc] at h
  exact gr_keep_0 h l0 l1 l2 hl2
noncomputable def c_X21_keep (l0 : Int) (l1 : Int) : Mo CH Int := R_keep 200 1 l0 l1 0 0 0
theorem sc_X21_keep (g : gC) (d : Nat) (ts : TS) (l0 : Int) (l1 : Int) : SF g yX21_keep (Cond.code yX21_keep cX21_keep 4 (Option.some Jvm.ClassFile.FieldType.long)) (Option.some Jvm.ClassFile.FieldType.long) (d + 205) [vA g l0, vA g l1] (fun h => (h, ts)) (c_X21_keep l0 l1) := by
  have h := R_keep_ok g ts 200 d
  rw [Nat.add_assoc] at h
  exact gr_keep_1 h l0 l1
noncomputable def c_X25_fill (l0 : Int) (l1 : Int) (l2 : Int) : Mo CH Int := R_keep 200 2 l0 l1 l2 0 0
theorem sc_X25_fill (g : gC) (d : Nat) (ts : TS) (l0 : Int) (l1 : Int) (l2 : Int) (hl2 : R64 l2) : SF g yX25_fill (Cond.code yX25_fill cX25_fill 4 (Option.some Jvm.ClassFile.FieldType.boolean)) (Option.some Jvm.ClassFile.FieldType.boolean) (d + 205) [vA g l0, vA g l1, vJ l2] (fun h => (h, ts)) (c_X25_fill l0 l1 l2) := by
  have h := R_keep_ok g ts 200 d
  rw [Nat.add_assoc] at h
  exact gr_keep_2 h l0 l1 l2 hl2
noncomputable def c_X25_keep (l0 : Int) (l1 : Int) : Mo CH Int := R_keep 200 3 l0 l1 0 0 0
theorem sc_X25_keep (g : gC) (d : Nat) (ts : TS) (l0 : Int) (l1 : Int) : SF g yX25_keep (Cond.code yX25_keep cX25_keep 4 (Option.some Jvm.ClassFile.FieldType.long)) (Option.some Jvm.ClassFile.FieldType.long) (d + 205) [vA g l0, vA g l1] (fun h => (h, ts)) (c_X25_keep l0 l1) := by
  have h := R_keep_ok g ts 200 d
  rw [Nat.add_assoc] at h
  exact gr_keep_3 h l0 l1
noncomputable def c_X3_fill (l0 : Int) (l1 : Int) (l3 : Int) (l4 : Int) : Mo CH Int := R_keep 200 4 l0 l1 l3 l4 0
theorem sc_X3_fill (g : gC) (d : Nat) (ts : TS) (l0 : Int) (l1 : Int) (l3 : Int) (l4 : Int) (hl1 : R64 l1) (hl3 : R32 l3) : SF g yX3_fill (Cond.code yX3_fill cX3_fill 9 (Option.some Jvm.ClassFile.FieldType.boolean)) (Option.some Jvm.ClassFile.FieldType.boolean) (d + 205) [vA g l0, vJ l1, vI l3, vA g l4] (fun h => (h, ts)) (c_X3_fill l0 l1 l3 l4) := by
  have h := R_keep_ok g ts 200 d
  rw [Nat.add_assoc] at h
  exact gr_keep_4 h l0 l1 l3 l4 hl1 hl3
noncomputable def v_X4_keep (l0 : Int) (l1 : Int) : Mo CH Int := R_keep 200 5 l0 l1 0 0 0
theorem sv_X4_keep (g : gC) (d : Nat) (ts : TS) (l0 : Int) (l1 : Int) : VR g ts ⟨"LazyForge$Part", "keep", "(LLazyForge$Machine;)J"⟩ (some .long) 1 (d + 205) l0 [vA g l1] (v_X4_keep l0 l1) := by
  have h := R_keep_ok g ts 200 d
  rw [Nat.add_assoc] at h
  exact gr_keep_5 h l0 l1
