/-! PRINTED: the wrappers of the law -/
set_option maxRecDepth 100000
theorem dX0_put_0 : decode cX0_put 0 = .ok (.aload_n 2, 1) := by decide +kernel
theorem dX0_put_1 : decode cX0_put 1 = .ok (.iconst 0, 1) := by decide +kernel
theorem dX0_put_2 : decode cX0_put 2 = .ok (.aload_n 0, 1) := by decide +kernel
theorem dX0_put_3 : decode cX0_put 3 = .ok (.iload_n 1, 1) := by decide +kernel
theorem dX0_put_4 : decode cX0_put 4 = .ok (.invokevirtual 7, 3) := by decide +kernel
theorem dX0_put_7 : decode cX0_put 7 = .ok (.i2l, 1) := by decide +kernel
theorem dX0_put_8 : decode cX0_put 8 = .ok (.lastore, 1) := by decide +kernel
theorem dX0_put_9 : decode cX0_put 9 = .ok (.goto 9, 3) := by decide +kernel
theorem dX0_put_12 : decode cX0_put 12 = .ok (.astore_n 3, 1) := by decide +kernel
theorem dX0_put_13 : decode cX0_put 13 = .ok (.iconst 1, 1) := by decide +kernel
theorem dX0_put_14 : decode cX0_put 14 = .ok (.ireturn, 1) := by decide +kernel
theorem dX0_put_15 : decode cX0_put 15 = .ok (.astore_n 3, 1) := by decide +kernel
theorem dX0_put_16 : decode cX0_put 16 = .ok (.iconst 2, 1) := by decide +kernel
theorem dX0_put_17 : decode cX0_put 17 = .ok (.ireturn, 1) := by decide +kernel
theorem dX0_put_18 : decode cX0_put 18 = .ok (.iconst 0, 1) := by decide +kernel
theorem dX0_put_19 : decode cX0_put 19 = .ok (.ireturn, 1) := by decide +kernel
noncomputable def c_X0_put (l0 : Int) (l1 : Int) (l2 : Int) : Mo CH Int :=
  bnd (isk 101 l0) fun _ =>
  bndH (c_X1_put l0 l1) (fun v1 =>
  bnd (ast 1 l2 0 v1) fun _ =>
  pr 0)
  (fun v2 => hdl v2 [(28, pr 1), (29, pr 2)])
theorem sc_X0_put (g : gC) (d : Nat) (ts : TS) (l0 : Int) (l1 : Int) (l2 : Int) (hl1 : R32 l1) : SF g yX0_put (Cond.codeWith yX0_put cX0_put 4 (Option.some Jvm.ClassFile.FieldType.int) [(0, 9, 12, 13), (0, 9, 15, 15)]) (Option.some Jvm.ClassFile.FieldType.int) (d + 9) [vA g l0, vI l1, vA g l2] (fun h => (h, ts)) (c_X0_put l0 l1 l2) := by
  refine SW.of (lv := [(0, vA g l0), (1, vI l1), (2, vA g l2)]) (by decide) (wt_A (wt_I (wt_A wt_0))) rfl (by simp only [la_A, la_I, la_J, la_0]) (fun Γ hg hnm o hX => ?_)
  subst hg
  have o : Ok Γ "LazyForgeLaw" cX0_put 4 (Option.some Jvm.ClassFile.FieldType.int) (d + 9) := o
  unfold c_X0_put
  refine s_aload_n o dX0_put_0 rfl 2 rfl ?_
  refine s_iconst o dX0_put_1 ?_
  refine s_aload_n o dX0_put_2 rfl 0 rfl ?_
  refine s_iload_n o dX0_put_3 rfl 1 rfl ?_
  refine s_cvH (d := d + 8) (As := [vI l1]) (st := [vI 0, vA (mg Γ) l2]) (c := 1) o hX (sc_X1_put (mg Γ) d ts l0 l1 hl1) mw_X1_put rfl (lw_all_tbl q487) rfl (lw_all_tbl q489) (lw_all_tbl q488) (wt_I (wt_A wt_0)) rfl dX0_put_4 rfl (rs := fun r => [vI r, vI 0, vA (mg Γ) l2]) (fun _ => rfl) (Lh := fun v2 => [(28, pr 1), (29, pr 2)]) (fun v2 => ⟨⟨12, ⟨by decide, [], ⟨0, 9, 12, 13⟩, [⟨0, 9, 15, 15⟩], _, rfl, rfl, by decide, by decide, rfl, (lw_all_tbl q485), trivial⟩, ?_⟩, ⟨⟨15, ⟨by decide, [⟨0, 9, 12, 13⟩], ⟨0, 9, 15, 15⟩, [], _, rfl, rfl, by decide, by decide, rfl, (lw_all_tbl q486), ⟨Or.inr ⟨by decide, _, (lw_all_tbl q485), by decide +kernel⟩, trivial⟩⟩, ?_⟩, trivial⟩⟩) (fun v1 hv1 => ?_)
  · refine r_astore_n o dX0_put_12 rfl rfl ⟨(Nat.ne_of_beq_eq_false rfl), (fun _ => (vA_cat (mg Γ) l0)), ⟨(Nat.ne_of_beq_eq_false rfl), (fun _ => rfl), ⟨(Nat.ne_of_beq_eq_false rfl), (fun _ => (vA_cat (mg Γ) l2)), trivial⟩⟩⟩ ?_
    refine s_iconst o dX0_put_13 ?_
    exact s_iret o rfl i_int (r32 rfl) dX0_put_14 (fun _ hh => hh)
  · refine r_astore_n o dX0_put_15 rfl rfl ⟨(Nat.ne_of_beq_eq_false rfl), (fun _ => (vA_cat (mg Γ) l0)), ⟨(Nat.ne_of_beq_eq_false rfl), (fun _ => rfl), ⟨(Nat.ne_of_beq_eq_false rfl), (fun _ => (vA_cat (mg Γ) l2)), trivial⟩⟩⟩ ?_
    refine s_iconst o dX0_put_16 ?_
    exact s_iret o rfl i_int (r32 rfl) dX0_put_17 (fun _ hh => hh)
  refine s_i2l o dX0_put_7 (hv1 _ rfl) ?_
  refine r_last o (r32 rfl) (rL (hv1 _ rfl)) dX0_put_8 ?_
  refine s_goto (tgt := 18) o dX0_put_9 (by decide) ?_
  refine s_iconst o dX0_put_18 ?_
  exact s_iret o rfl i_int (r32 rfl) dX0_put_19 (fun _ hh => hh)
theorem dX0_end_0 : decode cX0_end 0 = .ok (.aload_n 0, 1) := by decide +kernel
theorem dX0_end_1 : decode cX0_end 1 = .ok (.iload_n 1, 1) := by decide +kernel
theorem dX0_end_2 : decode cX0_end 2 = .ok (.invokevirtual 17, 3) := by decide +kernel
theorem dX0_end_5 : decode cX0_end 5 = .ok (.goto 6, 3) := by decide +kernel
theorem dX0_end_8 : decode cX0_end 8 = .ok (.astore_n 2, 1) := by decide +kernel
theorem dX0_end_9 : decode cX0_end 9 = .ok (.iconst 1, 1) := by decide +kernel
theorem dX0_end_10 : decode cX0_end 10 = .ok (.ireturn, 1) := by decide +kernel
theorem dX0_end_11 : decode cX0_end 11 = .ok (.iconst 0, 1) := by decide +kernel
theorem dX0_end_12 : decode cX0_end 12 = .ok (.ireturn, 1) := by decide +kernel
noncomputable def c_X0_end (l0 : Int) (l1 : Int) : Mo CH Int :=
  bnd (isk 101 l0) fun _ =>
  bndH (c_X1_end l0 l1) (fun _ =>
  pr 0)
  (fun v2 => hdl v2 [(28, pr 1)])
theorem sc_X0_end (g : gC) (d : Nat) (ts : TS) (l0 : Int) (l1 : Int) (hl1 : R32 l1) : SF g yX0_end (Cond.codeWith yX0_end cX0_end 3 (Option.some Jvm.ClassFile.FieldType.int) [(0, 5, 8, 13)]) (Option.some Jvm.ClassFile.FieldType.int) (d + 9) [vA g l0, vI l1] (fun h => (h, ts)) (c_X0_end l0 l1) := by
  refine SW.of (lv := [(0, vA g l0), (1, vI l1)]) (by decide) (wt_A (wt_I wt_0)) rfl (by simp only [la_A, la_I, la_J, la_0]) (fun Γ hg hnm o hX => ?_)
  subst hg
  have o : Ok Γ "LazyForgeLaw" cX0_end 3 (Option.some Jvm.ClassFile.FieldType.int) (d + 9) := o
  unfold c_X0_end
  refine s_aload_n o dX0_end_0 rfl 0 rfl ?_
  refine s_iload_n o dX0_end_1 rfl 1 rfl ?_
  refine s_cvH (d := d + 8) (As := [vI l1]) (st := []) (c := 1) o hX (sc_X1_end (mg Γ) d ts l0 l1 hl1) mw_X1_end rfl (lw_all_tbl q575) rfl (lw_all_tbl q577) (lw_all_tbl q576) wt_0 rfl dX0_end_2 rfl (rs := fun _ => []) (fun _ => rfl) (Lh := fun v2 => [(28, pr 1)]) (fun v2 => ⟨⟨8, ⟨by decide, [], ⟨0, 5, 8, 13⟩, [], _, rfl, rfl, by decide, by decide, rfl, (lw_all_tbl q485), trivial⟩, ?_⟩, trivial⟩) (fun _ _ => ?_)
  · refine r_astore_n o dX0_end_8 rfl rfl ⟨(Nat.ne_of_beq_eq_false rfl), (fun _ => (vA_cat (mg Γ) l0)), ⟨(Nat.ne_of_beq_eq_false rfl), (fun _ => rfl), trivial⟩⟩ ?_
    refine s_iconst o dX0_end_9 ?_
    exact s_iret o rfl i_int (r32 rfl) dX0_end_10 (fun _ hh => hh)
  refine s_goto (tgt := 11) o dX0_end_5 (by decide) ?_
  refine s_iconst o dX0_end_11 ?_
  exact s_iret o rfl i_int (r32 rfl) dX0_end_12 (fun _ hh => hh)
theorem dX0_program_0 : decode cX0_program 0 = .ok (.aload_n 1, 1) := by decide +kernel
theorem dX0_program_1 : decode cX0_program 1 = .ok (.iconst 0, 1) := by decide +kernel
theorem dX0_program_2 : decode cX0_program 2 = .ok (.aload_n 0, 1) := by decide +kernel
theorem dX0_program_3 : decode cX0_program 3 = .ok (.invokevirtual 21, 3) := by decide +kernel
theorem dX0_program_6 : decode cX0_program 6 = .ok (.i2l, 1) := by decide +kernel
theorem dX0_program_7 : decode cX0_program 7 = .ok (.lastore, 1) := by decide +kernel
theorem dX0_program_8 : decode cX0_program 8 = .ok (.goto 6, 3) := by decide +kernel
theorem dX0_program_11 : decode cX0_program 11 = .ok (.astore_n 2, 1) := by decide +kernel
theorem dX0_program_12 : decode cX0_program 12 = .ok (.iconst 1, 1) := by decide +kernel
theorem dX0_program_13 : decode cX0_program 13 = .ok (.ireturn, 1) := by decide +kernel
theorem dX0_program_14 : decode cX0_program 14 = .ok (.iconst 0, 1) := by decide +kernel
theorem dX0_program_15 : decode cX0_program 15 = .ok (.ireturn, 1) := by decide +kernel
noncomputable def c_X0_program (l0 : Int) (l1 : Int) : Mo CH Int :=
  bnd (isk 101 l0) fun _ =>
  bndH (c_X1_program l0) (fun v1 =>
  bnd (ast 1 l1 0 v1) fun _ =>
  pr 0)
  (fun v2 => hdl v2 [(29, pr 1)])
theorem sc_X0_program (g : gC) (d : Nat) (ts : TS) (l0 : Int) (l1 : Int) : SF g yX0_program (Cond.codeWith yX0_program cX0_program 3 (Option.some Jvm.ClassFile.FieldType.int) [(0, 8, 11, 15)]) (Option.some Jvm.ClassFile.FieldType.int) (d + 612) [vA g l0, vA g l1] (fun h => (h, ts)) (c_X0_program l0 l1) := by
  refine SW.of (lv := [(0, vA g l0), (1, vA g l1)]) (by decide) (wt_A (wt_A wt_0)) rfl (by simp only [la_A, la_I, la_J, la_0]) (fun Γ hg hnm o hX => ?_)
  subst hg
  have o : Ok Γ "LazyForgeLaw" cX0_program 3 (Option.some Jvm.ClassFile.FieldType.int) (d + 612) := o
  unfold c_X0_program
  refine s_aload_n o dX0_program_0 rfl 1 rfl ?_
  refine s_iconst o dX0_program_1 ?_
  refine s_aload_n o dX0_program_2 rfl 0 rfl ?_
  refine s_cvH (d := d + 611) (As := []) (st := [vI 0, vA (mg Γ) l1]) (c := 1) o hX (sc_X1_program (mg Γ) d ts l0) mw_X1_program rfl (lw_all_tbl q582) rfl (lw_all_tbl q584) (lw_all_tbl q583) (wt_I (wt_A wt_0)) rfl dX0_program_3 rfl (rs := fun r => [vI r, vI 0, vA (mg Γ) l1]) (fun _ => rfl) (Lh := fun v2 => [(29, pr 1)]) (fun v2 => ⟨⟨11, ⟨by decide, [], ⟨0, 8, 11, 15⟩, [], _, rfl, rfl, by decide, by decide, rfl, (lw_all_tbl q486), trivial⟩, ?_⟩, trivial⟩) (fun v1 hv1 => ?_)
  · refine r_astore_n o dX0_program_11 rfl rfl ⟨(Nat.ne_of_beq_eq_false rfl), (fun _ => (vA_cat (mg Γ) l0)), ⟨(Nat.ne_of_beq_eq_false rfl), (fun _ => (vA_cat (mg Γ) l1)), trivial⟩⟩ ?_
    refine s_iconst o dX0_program_12 ?_
    exact s_iret o rfl i_int (r32 rfl) dX0_program_13 (fun _ hh => hh)
  refine s_i2l o dX0_program_6 (hv1 _ rfl) ?_
  refine r_last o (r32 rfl) (rL (hv1 _ rfl)) dX0_program_7 ?_
  refine s_goto (tgt := 14) o dX0_program_8 (by decide) ?_
  refine s_iconst o dX0_program_14 ?_
  exact s_iret o rfl i_int (r32 rfl) dX0_program_15 (fun _ hh => hh)
theorem dX0_fault_0 : decode cX0_fault 0 = .ok (.aload_n 2, 1) := by decide +kernel
theorem dX0_fault_1 : decode cX0_fault 1 = .ok (.iconst 0, 1) := by decide +kernel
theorem dX0_fault_2 : decode cX0_fault 2 = .ok (.aload_n 0, 1) := by decide +kernel
theorem dX0_fault_3 : decode cX0_fault 3 = .ok (.iload_n 1, 1) := by decide +kernel
theorem dX0_fault_4 : decode cX0_fault 4 = .ok (.invokevirtual 25, 3) := by decide +kernel
theorem dX0_fault_7 : decode cX0_fault 7 = .ok (.i2l, 1) := by decide +kernel
theorem dX0_fault_8 : decode cX0_fault 8 = .ok (.lastore, 1) := by decide +kernel
theorem dX0_fault_9 : decode cX0_fault 9 = .ok (.goto 6, 3) := by decide +kernel
theorem dX0_fault_12 : decode cX0_fault 12 = .ok (.astore_n 3, 1) := by decide +kernel
theorem dX0_fault_13 : decode cX0_fault 13 = .ok (.iconst 1, 1) := by decide +kernel
theorem dX0_fault_14 : decode cX0_fault 14 = .ok (.ireturn, 1) := by decide +kernel
theorem dX0_fault_15 : decode cX0_fault 15 = .ok (.iconst 0, 1) := by decide +kernel
theorem dX0_fault_16 : decode cX0_fault 16 = .ok (.ireturn, 1) := by decide +kernel
noncomputable def c_X0_fault (l0 : Int) (l1 : Int) (l2 : Int) : Mo CH Int :=
  bnd (isk 101 l0) fun _ =>
  bndH (c_X1_fault l0 l1) (fun v1 =>
  bnd (ast 1 l2 0 v1) fun _ =>
  pr 0)
  (fun v2 => hdl v2 [(28, pr 1)])
theorem sc_X0_fault (g : gC) (d : Nat) (ts : TS) (l0 : Int) (l1 : Int) (l2 : Int) (hl1 : R32 l1) : SF g yX0_fault (Cond.codeWith yX0_fault cX0_fault 4 (Option.some Jvm.ClassFile.FieldType.int) [(0, 9, 12, 13)]) (Option.some Jvm.ClassFile.FieldType.int) (d + 9) [vA g l0, vI l1, vA g l2] (fun h => (h, ts)) (c_X0_fault l0 l1 l2) := by
  refine SW.of (lv := [(0, vA g l0), (1, vI l1), (2, vA g l2)]) (by decide) (wt_A (wt_I (wt_A wt_0))) rfl (by simp only [la_A, la_I, la_J, la_0]) (fun Γ hg hnm o hX => ?_)
  subst hg
  have o : Ok Γ "LazyForgeLaw" cX0_fault 4 (Option.some Jvm.ClassFile.FieldType.int) (d + 9) := o
  unfold c_X0_fault
  refine s_aload_n o dX0_fault_0 rfl 2 rfl ?_
  refine s_iconst o dX0_fault_1 ?_
  refine s_aload_n o dX0_fault_2 rfl 0 rfl ?_
  refine s_iload_n o dX0_fault_3 rfl 1 rfl ?_
  refine s_cvH (d := d + 8) (As := [vI l1]) (st := [vI 0, vA (mg Γ) l2]) (c := 1) o hX (sc_X1_fault (mg Γ) d ts l0 l1 hl1) mw_X1_fault rfl (lw_all_tbl q1897) rfl (lw_all_tbl q1899) (lw_all_tbl q1898) (wt_I (wt_A wt_0)) rfl dX0_fault_4 rfl (rs := fun r => [vI r, vI 0, vA (mg Γ) l2]) (fun _ => rfl) (Lh := fun v2 => [(28, pr 1)]) (fun v2 => ⟨⟨12, ⟨by decide, [], ⟨0, 9, 12, 13⟩, [], _, rfl, rfl, by decide, by decide, rfl, (lw_all_tbl q485), trivial⟩, ?_⟩, trivial⟩) (fun v1 hv1 => ?_)
  · refine r_astore_n o dX0_fault_12 rfl rfl ⟨(Nat.ne_of_beq_eq_false rfl), (fun _ => (vA_cat (mg Γ) l0)), ⟨(Nat.ne_of_beq_eq_false rfl), (fun _ => rfl), ⟨(Nat.ne_of_beq_eq_false rfl), (fun _ => (vA_cat (mg Γ) l2)), trivial⟩⟩⟩ ?_
    refine s_iconst o dX0_fault_13 ?_
    exact s_iret o rfl i_int (r32 rfl) dX0_fault_14 (fun _ hh => hh)
  refine s_i2l o dX0_fault_7 (hv1 _ rfl) ?_
  refine r_last o (r32 rfl) (rL (hv1 _ rfl)) dX0_fault_8 ?_
  refine s_goto (tgt := 15) o dX0_fault_9 (by decide) ?_
  refine s_iconst o dX0_fault_15 ?_
  exact s_iret o rfl i_int (r32 rfl) dX0_fault_16 (fun _ hh => hh)
theorem dX0_write_0 : decode cX0_write 0 = .ok (.aload_n 1, 1) := by decide +kernel
theorem dX0_write_1 : decode cX0_write 1 = .ok (.iconst 0, 1) := by decide +kernel
theorem dX0_write_2 : decode cX0_write 2 = .ok (.aload_n 0, 1) := by decide +kernel
theorem dX0_write_3 : decode cX0_write 3 = .ok (.invokevirtual 28, 3) := by decide +kernel
theorem dX0_write_6 : decode cX0_write 6 = .ok (.i2l, 1) := by decide +kernel
theorem dX0_write_7 : decode cX0_write 7 = .ok (.lastore, 1) := by decide +kernel
theorem dX0_write_8 : decode cX0_write 8 = .ok (.goto 6, 3) := by decide +kernel
theorem dX0_write_11 : decode cX0_write 11 = .ok (.astore_n 2, 1) := by decide +kernel
theorem dX0_write_12 : decode cX0_write 12 = .ok (.iconst 1, 1) := by decide +kernel
theorem dX0_write_13 : decode cX0_write 13 = .ok (.ireturn, 1) := by decide +kernel
theorem dX0_write_14 : decode cX0_write 14 = .ok (.iconst 0, 1) := by decide +kernel
theorem dX0_write_15 : decode cX0_write 15 = .ok (.ireturn, 1) := by decide +kernel
noncomputable def c_X0_write (l0 : Int) (l1 : Int) : Mo CH Int :=
  bnd (isk 101 l0) fun _ =>
  bndH (c_X1_write l0) (fun v1 =>
  bnd (ast 1 l1 0 v1) fun _ =>
  pr 0)
  (fun v2 => hdl v2 [(30, pr 1)])
theorem sc_X0_write (g : gC) (d : Nat) (ts : TS) (l0 : Int) (l1 : Int) : SF g yX0_write (Cond.codeWith yX0_write cX0_write 3 (Option.some Jvm.ClassFile.FieldType.int) [(0, 8, 11, 31)]) (Option.some Jvm.ClassFile.FieldType.int) (d + 209) [vA g l0, vA g l1] (fun h => (h, ts)) (c_X0_write l0 l1) := by
  refine SW.of (lv := [(0, vA g l0), (1, vA g l1)]) (by decide) (wt_A (wt_A wt_0)) rfl (by simp only [la_A, la_I, la_J, la_0]) (fun Γ hg hnm o hX => ?_)
  subst hg
  have o : Ok Γ "LazyForgeLaw" cX0_write 3 (Option.some Jvm.ClassFile.FieldType.int) (d + 209) := o
  unfold c_X0_write
  refine s_aload_n o dX0_write_0 rfl 1 rfl ?_
  refine s_iconst o dX0_write_1 ?_
  refine s_aload_n o dX0_write_2 rfl 0 rfl ?_
  refine s_cvH (d := d + 208) (As := []) (st := [vI 0, vA (mg Γ) l1]) (c := 1) o hX (sc_X1_write (mg Γ) d ts l0) mw_X1_write rfl (lw_all_tbl q1905) rfl (lw_all_tbl q1907) (lw_all_tbl q1906) (wt_I (wt_A wt_0)) rfl dX0_write_3 rfl (rs := fun r => [vI r, vI 0, vA (mg Γ) l1]) (fun _ => rfl) (Lh := fun v2 => [(30, pr 1)]) (fun v2 => ⟨⟨11, ⟨by decide, [], ⟨0, 8, 11, 31⟩, [], _, rfl, rfl, by decide, by decide, rfl, (lw_all_tbl q1904), trivial⟩, ?_⟩, trivial⟩) (fun v1 hv1 => ?_)
  · refine r_astore_n o dX0_write_11 rfl rfl ⟨(Nat.ne_of_beq_eq_false rfl), (fun _ => (vA_cat (mg Γ) l0)), ⟨(Nat.ne_of_beq_eq_false rfl), (fun _ => (vA_cat (mg Γ) l1)), trivial⟩⟩ ?_
    refine s_iconst o dX0_write_12 ?_
    exact s_iret o rfl i_int (r32 rfl) dX0_write_13 (fun _ hh => hh)
  refine s_i2l o dX0_write_6 (hv1 _ rfl) ?_
  refine r_last o (r32 rfl) (rL (hv1 _ rfl)) dX0_write_7 ?_
  refine s_goto (tgt := 14) o dX0_write_8 (by decide) ?_
  refine s_iconst o dX0_write_14 ?_
  exact s_iret o rfl i_int (r32 rfl) dX0_write_15 (fun _ hh => hh)
theorem dX0_letter_0 : decode cX0_letter 0 = .ok (.aload_n 2, 1) := by decide +kernel
theorem dX0_letter_1 : decode cX0_letter 1 = .ok (.iconst 0, 1) := by decide +kernel
theorem dX0_letter_2 : decode cX0_letter 2 = .ok (.aload_n 0, 1) := by decide +kernel
theorem dX0_letter_3 : decode cX0_letter 3 = .ok (.iload_n 1, 1) := by decide +kernel
theorem dX0_letter_4 : decode cX0_letter 4 = .ok (.invokevirtual 33, 3) := by decide +kernel
theorem dX0_letter_7 : decode cX0_letter 7 = .ok (.i2l, 1) := by decide +kernel
theorem dX0_letter_8 : decode cX0_letter 8 = .ok (.lastore, 1) := by decide +kernel
theorem dX0_letter_9 : decode cX0_letter 9 = .ok (.goto 6, 3) := by decide +kernel
theorem dX0_letter_12 : decode cX0_letter 12 = .ok (.astore_n 3, 1) := by decide +kernel
theorem dX0_letter_13 : decode cX0_letter 13 = .ok (.iconst 1, 1) := by decide +kernel
theorem dX0_letter_14 : decode cX0_letter 14 = .ok (.ireturn, 1) := by decide +kernel
theorem dX0_letter_15 : decode cX0_letter 15 = .ok (.iconst 0, 1) := by decide +kernel
theorem dX0_letter_16 : decode cX0_letter 16 = .ok (.ireturn, 1) := by decide +kernel
noncomputable def c_X0_letter (l0 : Int) (l1 : Int) (l2 : Int) : Mo CH Int :=
  bnd (isk 101 l0) fun _ =>
  bndH (c_X1_letter l0 l1) (fun v1 =>
  bnd (ast 1 l2 0 v1) fun _ =>
  pr 0)
  (fun v2 => hdl v2 [(31, pr 1)])
theorem sc_X0_letter (g : gC) (d : Nat) (ts : TS) (l0 : Int) (l1 : Int) (l2 : Int) (hl1 : R32 l1) : SF g yX0_letter (Cond.codeWith yX0_letter cX0_letter 4 (Option.some Jvm.ClassFile.FieldType.int) [(0, 9, 12, 36)]) (Option.some Jvm.ClassFile.FieldType.int) (d + 9) [vA g l0, vI l1, vA g l2] (fun h => (h, ts)) (c_X0_letter l0 l1 l2) := by
  refine SW.of (lv := [(0, vA g l0), (1, vI l1), (2, vA g l2)]) (by decide) (wt_A (wt_I (wt_A wt_0))) rfl (by simp only [la_A, la_I, la_J, la_0]) (fun Γ hg hnm o hX => ?_)
  subst hg
  have o : Ok Γ "LazyForgeLaw" cX0_letter 4 (Option.some Jvm.ClassFile.FieldType.int) (d + 9) := o
  unfold c_X0_letter
  refine s_aload_n o dX0_letter_0 rfl 2 rfl ?_
  refine s_iconst o dX0_letter_1 ?_
  refine s_aload_n o dX0_letter_2 rfl 0 rfl ?_
  refine s_iload_n o dX0_letter_3 rfl 1 rfl ?_
  refine s_cvH (d := d + 8) (As := [vI l1]) (st := [vI 0, vA (mg Γ) l2]) (c := 1) o hX (sc_X1_letter (mg Γ) d ts l0 l1 hl1) mw_X1_letter rfl (lw_all_tbl q2093) rfl (lw_all_tbl q2095) (lw_all_tbl q2094) (wt_I (wt_A wt_0)) rfl dX0_letter_4 rfl (rs := fun r => [vI r, vI 0, vA (mg Γ) l2]) (fun _ => rfl) (Lh := fun v2 => [(31, pr 1)]) (fun v2 => ⟨⟨12, ⟨by decide, [], ⟨0, 9, 12, 36⟩, [], _, rfl, rfl, by decide, by decide, rfl, (lw_all_tbl q2061), trivial⟩, ?_⟩, trivial⟩) (fun v1 hv1 => ?_)
  · refine r_astore_n o dX0_letter_12 rfl rfl ⟨(Nat.ne_of_beq_eq_false rfl), (fun _ => (vA_cat (mg Γ) l0)), ⟨(Nat.ne_of_beq_eq_false rfl), (fun _ => rfl), ⟨(Nat.ne_of_beq_eq_false rfl), (fun _ => (vA_cat (mg Γ) l2)), trivial⟩⟩⟩ ?_
    refine s_iconst o dX0_letter_13 ?_
    exact s_iret o rfl i_int (r32 rfl) dX0_letter_14 (fun _ hh => hh)
  refine s_i2l o dX0_letter_7 (hv1 _ rfl) ?_
  refine r_last o (r32 rfl) (rL (hv1 _ rfl)) dX0_letter_8 ?_
  refine s_goto (tgt := 15) o dX0_letter_9 (by decide) ?_
  refine s_iconst o dX0_letter_15 ?_
  exact s_iret o rfl i_int (r32 rfl) dX0_letter_16 (fun _ hh => hh)
theorem dX0_function_0 : decode cX0_function 0 = .ok (.aload_n 3, 1) := by decide +kernel
theorem dX0_function_1 : decode cX0_function 1 = .ok (.iconst 0, 1) := by decide +kernel
theorem dX0_function_2 : decode cX0_function 2 = .ok (.aload_n 0, 1) := by decide +kernel
theorem dX0_function_3 : decode cX0_function 3 = .ok (.iload_n 1, 1) := by decide +kernel
theorem dX0_function_4 : decode cX0_function 4 = .ok (.iload_n 2, 1) := by decide +kernel
theorem dX0_function_5 : decode cX0_function 5 = .ok (.invokevirtual 38, 3) := by decide +kernel
theorem dX0_function_8 : decode cX0_function 8 = .ok (.i2l, 1) := by decide +kernel
theorem dX0_function_9 : decode cX0_function 9 = .ok (.lastore, 1) := by decide +kernel
theorem dX0_function_10 : decode cX0_function 10 = .ok (.goto 15, 3) := by decide +kernel
theorem dX0_function_13 : decode cX0_function 13 = .ok (.astore 4, 2) := by decide +kernel
theorem dX0_function_15 : decode cX0_function 15 = .ok (.iconst 1, 1) := by decide +kernel
theorem dX0_function_16 : decode cX0_function 16 = .ok (.ireturn, 1) := by decide +kernel
theorem dX0_function_17 : decode cX0_function 17 = .ok (.astore 4, 2) := by decide +kernel
theorem dX0_function_19 : decode cX0_function 19 = .ok (.iconst 2, 1) := by decide +kernel
theorem dX0_function_20 : decode cX0_function 20 = .ok (.ireturn, 1) := by decide +kernel
theorem dX0_function_21 : decode cX0_function 21 = .ok (.astore 4, 2) := by decide +kernel
theorem dX0_function_23 : decode cX0_function 23 = .ok (.iconst 3, 1) := by decide +kernel
theorem dX0_function_24 : decode cX0_function 24 = .ok (.ireturn, 1) := by decide +kernel
theorem dX0_function_25 : decode cX0_function 25 = .ok (.iconst 0, 1) := by decide +kernel
theorem dX0_function_26 : decode cX0_function 26 = .ok (.ireturn, 1) := by decide +kernel
noncomputable def c_X0_function (l0 : Int) (l1 : Int) (l2 : Int) (l3 : Int) : Mo CH Int :=
  bnd (isk 101 l0) fun _ =>
  bndH (c_X1_function l0 l1 l2) (fun v1 =>
  bnd (ast 1 l3 0 v1) fun _ =>
  pr 0)
  (fun v2 => hdl v2 [(30, pr 1), (31, pr 2), (28, pr 3)])
theorem sc_X0_function (g : gC) (d : Nat) (ts : TS) (l0 : Int) (l1 : Int) (l2 : Int) (l3 : Int) (hl1 : R32 l1) (hl2 : R32 l2) : SF g yX0_function (Cond.codeWith yX0_function cX0_function 5 (Option.some Jvm.ClassFile.FieldType.int) [(0, 10, 13, 31), (0, 10, 17, 36), (0, 10, 21, 13)]) (Option.some Jvm.ClassFile.FieldType.int) (d + 11) [vA g l0, vI l1, vI l2, vA g l3] (fun h => (h, ts)) (c_X0_function l0 l1 l2 l3) := by
  refine SW.of (lv := [(0, vA g l0), (1, vI l1), (2, vI l2), (3, vA g l3)]) (by decide) (wt_A (wt_I (wt_I (wt_A wt_0)))) rfl (by simp only [la_A, la_I, la_J, la_0]) (fun Γ hg hnm o hX => ?_)
  subst hg
  have o : Ok Γ "LazyForgeLaw" cX0_function 5 (Option.some Jvm.ClassFile.FieldType.int) (d + 11) := o
  unfold c_X0_function
  refine s_aload_n o dX0_function_0 rfl 3 rfl ?_
  refine s_iconst o dX0_function_1 ?_
  refine s_aload_n o dX0_function_2 rfl 0 rfl ?_
  refine s_iload_n o dX0_function_3 rfl 1 rfl ?_
  refine s_iload_n o dX0_function_4 rfl 2 rfl ?_
  refine s_cvH (d := d + 10) (As := [vI l1, vI l2]) (st := [vI 0, vA (mg Γ) l3]) (c := 1) o hX (sc_X1_function (mg Γ) d ts l0 l1 l2 hl1 hl2) mw_X1_function rfl (lw_all_tbl q2115) rfl (lw_all_tbl q2117) (lw_all_tbl q2116) (wt_I (wt_A wt_0)) rfl dX0_function_5 rfl (rs := fun r => [vI r, vI 0, vA (mg Γ) l3]) (fun _ => rfl) (Lh := fun v2 => [(30, pr 1), (31, pr 2), (28, pr 3)]) (fun v2 => ⟨⟨13, ⟨by decide, [], ⟨0, 10, 13, 31⟩, [⟨0, 10, 17, 36⟩, ⟨0, 10, 21, 13⟩], _, rfl, rfl, by decide, by decide, rfl, (lw_all_tbl q1904), trivial⟩, ?_⟩, ⟨⟨17, ⟨by decide, [⟨0, 10, 13, 31⟩], ⟨0, 10, 17, 36⟩, [⟨0, 10, 21, 13⟩], _, rfl, rfl, by decide, by decide, rfl, (lw_all_tbl q2061), ⟨Or.inr ⟨by decide, _, (lw_all_tbl q1904), by decide +kernel⟩, trivial⟩⟩, ?_⟩, ⟨⟨21, ⟨by decide, [⟨0, 10, 13, 31⟩, ⟨0, 10, 17, 36⟩], ⟨0, 10, 21, 13⟩, [], _, rfl, rfl, by decide, by decide, rfl, (lw_all_tbl q485), ⟨Or.inr ⟨by decide, _, (lw_all_tbl q1904), by decide +kernel⟩, ⟨Or.inr ⟨by decide, _, (lw_all_tbl q2061), by decide +kernel⟩, trivial⟩⟩⟩, ?_⟩, trivial⟩⟩⟩) (fun v1 hv1 => ?_)
  · refine r_astore o dX0_function_13 rfl ⟨(Nat.ne_of_beq_eq_false rfl), (fun _ => (vA_cat (mg Γ) l0)), ⟨(Nat.ne_of_beq_eq_false rfl), (fun _ => rfl), ⟨(Nat.ne_of_beq_eq_false rfl), (fun _ => rfl), ⟨(Nat.ne_of_beq_eq_false rfl), (fun _ => (vA_cat (mg Γ) l3)), trivial⟩⟩⟩⟩ ?_
    refine s_iconst o dX0_function_15 ?_
    exact s_iret o rfl i_int (r32 rfl) dX0_function_16 (fun _ hh => hh)
  · refine r_astore o dX0_function_17 rfl ⟨(Nat.ne_of_beq_eq_false rfl), (fun _ => (vA_cat (mg Γ) l0)), ⟨(Nat.ne_of_beq_eq_false rfl), (fun _ => rfl), ⟨(Nat.ne_of_beq_eq_false rfl), (fun _ => rfl), ⟨(Nat.ne_of_beq_eq_false rfl), (fun _ => (vA_cat (mg Γ) l3)), trivial⟩⟩⟩⟩ ?_
    refine s_iconst o dX0_function_19 ?_
    exact s_iret o rfl i_int (r32 rfl) dX0_function_20 (fun _ hh => hh)
  · refine r_astore o dX0_function_21 rfl ⟨(Nat.ne_of_beq_eq_false rfl), (fun _ => (vA_cat (mg Γ) l0)), ⟨(Nat.ne_of_beq_eq_false rfl), (fun _ => rfl), ⟨(Nat.ne_of_beq_eq_false rfl), (fun _ => rfl), ⟨(Nat.ne_of_beq_eq_false rfl), (fun _ => (vA_cat (mg Γ) l3)), trivial⟩⟩⟩⟩ ?_
    refine s_iconst o dX0_function_23 ?_
    exact s_iret o rfl i_int (r32 rfl) dX0_function_24 (fun _ hh => hh)
  refine s_i2l o dX0_function_8 (hv1 _ rfl) ?_
  refine r_last o (r32 rfl) (rL (hv1 _ rfl)) dX0_function_9 ?_
  refine s_goto (tgt := 25) o dX0_function_10 (by decide) ?_
  refine s_iconst o dX0_function_25 ?_
  exact s_iret o rfl i_int (r32 rfl) dX0_function_26 (fun _ hh => hh)
theorem dX0_needs_0 : decode cX0_needs 0 = .ok (.aload_n 3, 1) := by decide +kernel
theorem dX0_needs_1 : decode cX0_needs 1 = .ok (.iconst 0, 1) := by decide +kernel
theorem dX0_needs_2 : decode cX0_needs 2 = .ok (.aload_n 0, 1) := by decide +kernel
theorem dX0_needs_3 : decode cX0_needs 3 = .ok (.iload_n 1, 1) := by decide +kernel
theorem dX0_needs_4 : decode cX0_needs 4 = .ok (.iload_n 2, 1) := by decide +kernel
theorem dX0_needs_5 : decode cX0_needs 5 = .ok (.invokevirtual 42, 3) := by decide +kernel
theorem dX0_needs_8 : decode cX0_needs 8 = .ok (.ifCond .eq 7, 3) := by decide +kernel
theorem dX0_needs_11 : decode cX0_needs 11 = .ok (.lconst 1, 1) := by decide +kernel
theorem dX0_needs_12 : decode cX0_needs 12 = .ok (.goto 4, 3) := by decide +kernel
theorem dX0_needs_15 : decode cX0_needs 15 = .ok (.lconst 0, 1) := by decide +kernel
theorem dX0_needs_16 : decode cX0_needs 16 = .ok (.lastore, 1) := by decide +kernel
theorem dX0_needs_17 : decode cX0_needs 17 = .ok (.goto 11, 3) := by decide +kernel
theorem dX0_needs_20 : decode cX0_needs 20 = .ok (.astore 4, 2) := by decide +kernel
theorem dX0_needs_22 : decode cX0_needs 22 = .ok (.iconst 1, 1) := by decide +kernel
theorem dX0_needs_23 : decode cX0_needs 23 = .ok (.ireturn, 1) := by decide +kernel
theorem dX0_needs_24 : decode cX0_needs 24 = .ok (.astore 4, 2) := by decide +kernel
theorem dX0_needs_26 : decode cX0_needs 26 = .ok (.iconst 2, 1) := by decide +kernel
theorem dX0_needs_27 : decode cX0_needs 27 = .ok (.ireturn, 1) := by decide +kernel
theorem dX0_needs_28 : decode cX0_needs 28 = .ok (.iconst 0, 1) := by decide +kernel
theorem dX0_needs_29 : decode cX0_needs 29 = .ok (.ireturn, 1) := by decide +kernel
noncomputable def c_X0_needs_16  (k0 : Int) (k1 : Int) (k2 : Int) : Mo CH Int :=
  bnd (ast 1 k2 k1 k0) fun _ =>
  pr 0
theorem sc_X0_needs_16 {Γ : Gm} {ts : TS} {d : Nat} (hX : Xt Γ (tableOf [(0, 17, 20, 31), (0, 17, 24, 36)])) (o : Ok Γ "LazyForgeLaw" cX0_needs 5 (Option.some Jvm.ClassFile.FieldType.int) (d + 11))   (k0 : Int) (k1 : Int) (k2 : Int) (hk0 : R64 k0) (hk1 : rg .boolean k1) : Sx Γ (fun h => (h, ts)) (fun a s => mt Γ = (0, a, ((s, ts) : Wd))) 16 [] [vJ k0, vI k1, vA (mg Γ) k2] (c_X0_needs_16 k0 k1 k2) := by
  unfold c_X0_needs_16
  refine r_last o (rZ hk1) hk0 dX0_needs_16 ?_
  refine s_goto (tgt := 28) o dX0_needs_17 (by decide) ?_
  refine s_iconst o dX0_needs_28 ?_
  exact s_iret o rfl i_int (r32 rfl) dX0_needs_29 (fun _ hh => hh)
noncomputable def c_X0_needs (l0 : Int) (l1 : Int) (l2 : Int) (l3 : Int) : Mo CH Int :=
  bnd (isk 101 l0) fun _ =>
  bndH (c_X1_needs l0 l1 l2) (fun v1 =>
  if v1 = 0 then
    c_X0_needs_16 0 0 l3
  else
    c_X0_needs_16 1 0 l3)
  (fun v2 => hdl v2 [(30, pr 1), (31, pr 2)])
theorem sc_X0_needs (g : gC) (d : Nat) (ts : TS) (l0 : Int) (l1 : Int) (l2 : Int) (l3 : Int) (hl1 : R32 l1) (hl2 : R32 l2) : SF g yX0_needs (Cond.codeWith yX0_needs cX0_needs 5 (Option.some Jvm.ClassFile.FieldType.int) [(0, 17, 20, 31), (0, 17, 24, 36)]) (Option.some Jvm.ClassFile.FieldType.int) (d + 11) [vA g l0, vI l1, vI l2, vA g l3] (fun h => (h, ts)) (c_X0_needs l0 l1 l2 l3) := by
  refine SW.of (lv := [(0, vA g l0), (1, vI l1), (2, vI l2), (3, vA g l3)]) (by decide) (wt_A (wt_I (wt_I (wt_A wt_0)))) rfl (by simp only [la_A, la_I, la_J, la_0]) (fun Γ hg hnm o hX => ?_)
  subst hg
  have o : Ok Γ "LazyForgeLaw" cX0_needs 5 (Option.some Jvm.ClassFile.FieldType.int) (d + 11) := o
  unfold c_X0_needs
  refine s_aload_n o dX0_needs_0 rfl 3 rfl ?_
  refine s_iconst o dX0_needs_1 ?_
  refine s_aload_n o dX0_needs_2 rfl 0 rfl ?_
  refine s_iload_n o dX0_needs_3 rfl 1 rfl ?_
  refine s_iload_n o dX0_needs_4 rfl 2 rfl ?_
  refine s_cvH (d := d + 10) (As := [vI l1, vI l2]) (st := [vI 0, vA (mg Γ) l3]) (c := 1) o hX (sc_X1_needs (mg Γ) d ts l0 l1 l2 hl1 hl2) mw_X1_needs rfl (lw_all_tbl q2127) rfl (lw_all_tbl q2129) (lw_all_tbl q2128) (wt_I (wt_A wt_0)) rfl dX0_needs_5 rfl (rs := fun r => [vI r, vI 0, vA (mg Γ) l3]) (fun _ => rfl) (Lh := fun v2 => [(30, pr 1), (31, pr 2)]) (fun v2 => ⟨⟨20, ⟨by decide, [], ⟨0, 17, 20, 31⟩, [⟨0, 17, 24, 36⟩], _, rfl, rfl, by decide, by decide, rfl, (lw_all_tbl q1904), trivial⟩, ?_⟩, ⟨⟨24, ⟨by decide, [⟨0, 17, 20, 31⟩], ⟨0, 17, 24, 36⟩, [], _, rfl, rfl, by decide, by decide, rfl, (lw_all_tbl q2061), ⟨Or.inr ⟨by decide, _, (lw_all_tbl q1904), by decide +kernel⟩, trivial⟩⟩, ?_⟩, trivial⟩⟩) (fun v1 hv1 => ?_)
  · refine r_astore o dX0_needs_20 rfl ⟨(Nat.ne_of_beq_eq_false rfl), (fun _ => (vA_cat (mg Γ) l0)), ⟨(Nat.ne_of_beq_eq_false rfl), (fun _ => rfl), ⟨(Nat.ne_of_beq_eq_false rfl), (fun _ => rfl), ⟨(Nat.ne_of_beq_eq_false rfl), (fun _ => (vA_cat (mg Γ) l3)), trivial⟩⟩⟩⟩ ?_
    refine s_iconst o dX0_needs_22 ?_
    exact s_iret o rfl i_int (r32 rfl) dX0_needs_23 (fun _ hh => hh)
  · refine r_astore o dX0_needs_24 rfl ⟨(Nat.ne_of_beq_eq_false rfl), (fun _ => (vA_cat (mg Γ) l0)), ⟨(Nat.ne_of_beq_eq_false rfl), (fun _ => rfl), ⟨(Nat.ne_of_beq_eq_false rfl), (fun _ => rfl), ⟨(Nat.ne_of_beq_eq_false rfl), (fun _ => (vA_cat (mg Γ) l3)), trivial⟩⟩⟩⟩ ?_
    refine s_iconst o dX0_needs_26 ?_
    exact s_iret o rfl i_int (r32 rfl) dX0_needs_27 (fun _ hh => hh)
  refine s_if_eq (tgt := 15) o dX0_needs_8 (by decide) (rZ (hv1 _ rfl)) ?_ ?_
  · refine s_lconst (x := 0) o dX0_needs_15 rfl ?_
    refine r_to [] [] rfl ?_
    exact sc_X0_needs_16 hX o 0 0 l3 (r64 rfl) (Or.inl rfl)
  · refine s_lconst (x := 1) o dX0_needs_11 rfl ?_
    refine s_goto (tgt := 16) o dX0_needs_12 (by decide) ?_
    refine r_to [] [] rfl ?_
    exact sc_X0_needs_16 hX o 1 0 l3 (r64 rfl) (Or.inl rfl)
theorem dX0_bit_0 : decode cX0_bit 0 = .ok (.aload_n 3, 1) := by decide +kernel
theorem dX0_bit_1 : decode cX0_bit 1 = .ok (.iconst 0, 1) := by decide +kernel
theorem dX0_bit_2 : decode cX0_bit 2 = .ok (.aload_n 0, 1) := by decide +kernel
theorem dX0_bit_3 : decode cX0_bit 3 = .ok (.iload_n 1, 1) := by decide +kernel
theorem dX0_bit_4 : decode cX0_bit 4 = .ok (.iload_n 2, 1) := by decide +kernel
theorem dX0_bit_5 : decode cX0_bit 5 = .ok (.invokevirtual 46, 3) := by decide +kernel
theorem dX0_bit_8 : decode cX0_bit 8 = .ok (.i2l, 1) := by decide +kernel
theorem dX0_bit_9 : decode cX0_bit 9 = .ok (.lastore, 1) := by decide +kernel
theorem dX0_bit_10 : decode cX0_bit 10 = .ok (.goto 15, 3) := by decide +kernel
theorem dX0_bit_13 : decode cX0_bit 13 = .ok (.astore 4, 2) := by decide +kernel
theorem dX0_bit_15 : decode cX0_bit 15 = .ok (.iconst 1, 1) := by decide +kernel
theorem dX0_bit_16 : decode cX0_bit 16 = .ok (.ireturn, 1) := by decide +kernel
theorem dX0_bit_17 : decode cX0_bit 17 = .ok (.astore 4, 2) := by decide +kernel
theorem dX0_bit_19 : decode cX0_bit 19 = .ok (.iconst 2, 1) := by decide +kernel
theorem dX0_bit_20 : decode cX0_bit 20 = .ok (.ireturn, 1) := by decide +kernel
theorem dX0_bit_21 : decode cX0_bit 21 = .ok (.astore 4, 2) := by decide +kernel
theorem dX0_bit_23 : decode cX0_bit 23 = .ok (.iconst 3, 1) := by decide +kernel
theorem dX0_bit_24 : decode cX0_bit 24 = .ok (.ireturn, 1) := by decide +kernel
theorem dX0_bit_25 : decode cX0_bit 25 = .ok (.iconst 0, 1) := by decide +kernel
theorem dX0_bit_26 : decode cX0_bit 26 = .ok (.ireturn, 1) := by decide +kernel
noncomputable def c_X0_bit (l0 : Int) (l1 : Int) (l2 : Int) (l3 : Int) : Mo CH Int :=
  bnd (isk 101 l0) fun _ =>
  bndH (c_X1_bit l0 l1 l2) (fun v1 =>
  bnd (ast 1 l3 0 v1) fun _ =>
  pr 0)
  (fun v2 => hdl v2 [(30, pr 1), (31, pr 2), (28, pr 3)])
theorem sc_X0_bit (g : gC) (d : Nat) (ts : TS) (l0 : Int) (l1 : Int) (l2 : Int) (l3 : Int) (hl1 : R32 l1) (hl2 : R32 l2) : SF g yX0_bit (Cond.codeWith yX0_bit cX0_bit 5 (Option.some Jvm.ClassFile.FieldType.int) [(0, 10, 13, 31), (0, 10, 17, 36), (0, 10, 21, 13)]) (Option.some Jvm.ClassFile.FieldType.int) (d + 11) [vA g l0, vI l1, vI l2, vA g l3] (fun h => (h, ts)) (c_X0_bit l0 l1 l2 l3) := by
  refine SW.of (lv := [(0, vA g l0), (1, vI l1), (2, vI l2), (3, vA g l3)]) (by decide) (wt_A (wt_I (wt_I (wt_A wt_0)))) rfl (by simp only [la_A, la_I, la_J, la_0]) (fun Γ hg hnm o hX => ?_)
  subst hg
  have o : Ok Γ "LazyForgeLaw" cX0_bit 5 (Option.some Jvm.ClassFile.FieldType.int) (d + 11) := o
  unfold c_X0_bit
  refine s_aload_n o dX0_bit_0 rfl 3 rfl ?_
  refine s_iconst o dX0_bit_1 ?_
  refine s_aload_n o dX0_bit_2 rfl 0 rfl ?_
  refine s_iload_n o dX0_bit_3 rfl 1 rfl ?_
  refine s_iload_n o dX0_bit_4 rfl 2 rfl ?_
  refine s_cvH (d := d + 10) (As := [vI l1, vI l2]) (st := [vI 0, vA (mg Γ) l3]) (c := 1) o hX (sc_X1_bit (mg Γ) d ts l0 l1 l2 hl1 hl2) mw_X1_bit rfl (lw_all_tbl q2138) rfl (lw_all_tbl q2140) (lw_all_tbl q2139) (wt_I (wt_A wt_0)) rfl dX0_bit_5 rfl (rs := fun r => [vI r, vI 0, vA (mg Γ) l3]) (fun _ => rfl) (Lh := fun v2 => [(30, pr 1), (31, pr 2), (28, pr 3)]) (fun v2 => ⟨⟨13, ⟨by decide, [], ⟨0, 10, 13, 31⟩, [⟨0, 10, 17, 36⟩, ⟨0, 10, 21, 13⟩], _, rfl, rfl, by decide, by decide, rfl, (lw_all_tbl q1904), trivial⟩, ?_⟩, ⟨⟨17, ⟨by decide, [⟨0, 10, 13, 31⟩], ⟨0, 10, 17, 36⟩, [⟨0, 10, 21, 13⟩], _, rfl, rfl, by decide, by decide, rfl, (lw_all_tbl q2061), ⟨Or.inr ⟨by decide, _, (lw_all_tbl q1904), by decide +kernel⟩, trivial⟩⟩, ?_⟩, ⟨⟨21, ⟨by decide, [⟨0, 10, 13, 31⟩, ⟨0, 10, 17, 36⟩], ⟨0, 10, 21, 13⟩, [], _, rfl, rfl, by decide, by decide, rfl, (lw_all_tbl q485), ⟨Or.inr ⟨by decide, _, (lw_all_tbl q1904), by decide +kernel⟩, ⟨Or.inr ⟨by decide, _, (lw_all_tbl q2061), by decide +kernel⟩, trivial⟩⟩⟩, ?_⟩, trivial⟩⟩⟩) (fun v1 hv1 => ?_)
  · refine r_astore o dX0_bit_13 rfl ⟨(Nat.ne_of_beq_eq_false rfl), (fun _ => (vA_cat (mg Γ) l0)), ⟨(Nat.ne_of_beq_eq_false rfl), (fun _ => rfl), ⟨(Nat.ne_of_beq_eq_false rfl), (fun _ => rfl), ⟨(Nat.ne_of_beq_eq_false rfl), (fun _ => (vA_cat (mg Γ) l3)), trivial⟩⟩⟩⟩ ?_
    refine s_iconst o dX0_bit_15 ?_
    exact s_iret o rfl i_int (r32 rfl) dX0_bit_16 (fun _ hh => hh)
  · refine r_astore o dX0_bit_17 rfl ⟨(Nat.ne_of_beq_eq_false rfl), (fun _ => (vA_cat (mg Γ) l0)), ⟨(Nat.ne_of_beq_eq_false rfl), (fun _ => rfl), ⟨(Nat.ne_of_beq_eq_false rfl), (fun _ => rfl), ⟨(Nat.ne_of_beq_eq_false rfl), (fun _ => (vA_cat (mg Γ) l3)), trivial⟩⟩⟩⟩ ?_
    refine s_iconst o dX0_bit_19 ?_
    exact s_iret o rfl i_int (r32 rfl) dX0_bit_20 (fun _ hh => hh)
  · refine r_astore o dX0_bit_21 rfl ⟨(Nat.ne_of_beq_eq_false rfl), (fun _ => (vA_cat (mg Γ) l0)), ⟨(Nat.ne_of_beq_eq_false rfl), (fun _ => rfl), ⟨(Nat.ne_of_beq_eq_false rfl), (fun _ => rfl), ⟨(Nat.ne_of_beq_eq_false rfl), (fun _ => (vA_cat (mg Γ) l3)), trivial⟩⟩⟩⟩ ?_
    refine s_iconst o dX0_bit_23 ?_
    exact s_iret o rfl i_int (r32 rfl) dX0_bit_24 (fun _ hh => hh)
  refine s_i2l o dX0_bit_8 (hv1 _ rfl) ?_
  refine r_last o (r32 rfl) (rL (hv1 _ rfl)) dX0_bit_9 ?_
  refine s_goto (tgt := 25) o dX0_bit_10 (by decide) ?_
  refine s_iconst o dX0_bit_25 ?_
  exact s_iret o rfl i_int (r32 rfl) dX0_bit_26 (fun _ hh => hh)
theorem dX0_run_0 : decode cX0_run 0 = .ok (.aload_n 3, 1) := by decide +kernel
theorem dX0_run_1 : decode cX0_run 1 = .ok (.iconst 0, 1) := by decide +kernel
theorem dX0_run_2 : decode cX0_run 2 = .ok (.aload_n 0, 1) := by decide +kernel
theorem dX0_run_3 : decode cX0_run 3 = .ok (.iload_n 1, 1) := by decide +kernel
theorem dX0_run_4 : decode cX0_run 4 = .ok (.iload_n 2, 1) := by decide +kernel
theorem dX0_run_5 : decode cX0_run 5 = .ok (.invokevirtual 49, 3) := by decide +kernel
theorem dX0_run_8 : decode cX0_run 8 = .ok (.i2l, 1) := by decide +kernel
theorem dX0_run_9 : decode cX0_run 9 = .ok (.lastore, 1) := by decide +kernel
theorem dX0_run_10 : decode cX0_run 10 = .ok (.goto 15, 3) := by decide +kernel
theorem dX0_run_13 : decode cX0_run 13 = .ok (.astore 4, 2) := by decide +kernel
theorem dX0_run_15 : decode cX0_run 15 = .ok (.iconst 1, 1) := by decide +kernel
theorem dX0_run_16 : decode cX0_run 16 = .ok (.ireturn, 1) := by decide +kernel
theorem dX0_run_17 : decode cX0_run 17 = .ok (.astore 4, 2) := by decide +kernel
theorem dX0_run_19 : decode cX0_run 19 = .ok (.iconst 2, 1) := by decide +kernel
theorem dX0_run_20 : decode cX0_run 20 = .ok (.ireturn, 1) := by decide +kernel
theorem dX0_run_21 : decode cX0_run 21 = .ok (.astore 4, 2) := by decide +kernel
theorem dX0_run_23 : decode cX0_run 23 = .ok (.iconst 3, 1) := by decide +kernel
theorem dX0_run_24 : decode cX0_run 24 = .ok (.ireturn, 1) := by decide +kernel
theorem dX0_run_25 : decode cX0_run 25 = .ok (.iconst 0, 1) := by decide +kernel
theorem dX0_run_26 : decode cX0_run 26 = .ok (.ireturn, 1) := by decide +kernel
noncomputable def c_X0_run (l0 : Int) (l1 : Int) (l2 : Int) (l3 : Int) : Mo CH Int :=
  bnd (isk 101 l0) fun _ =>
  bndH (c_X1_run l0 l1 l2) (fun v1 =>
  bnd (ast 1 l3 0 v1) fun _ =>
  pr 0)
  (fun v2 => hdl v2 [(30, pr 1), (28, pr 2), (29, pr 3)])
theorem sc_X0_run (g : gC) (d : Nat) (ts : TS) (l0 : Int) (l1 : Int) (l2 : Int) (l3 : Int) (hl1 : rg .boolean l1) (hl2 : R32 l2) : SF g yX0_run (Cond.codeWith yX0_run cX0_run 5 (Option.some Jvm.ClassFile.FieldType.int) [(0, 10, 13, 31), (0, 10, 17, 13), (0, 10, 21, 15)]) (Option.some Jvm.ClassFile.FieldType.int) (d + 210) [vA g l0, vI l1, vI l2, vA g l3] (fun h => (h, ts)) (c_X0_run l0 l1 l2 l3) := by
  refine SW.of (lv := [(0, vA g l0), (1, vI l1), (2, vI l2), (3, vA g l3)]) (by decide) (wt_A (wt_I (wt_I (wt_A wt_0)))) rfl (by simp only [la_A, la_I, la_J, la_0]) (fun Γ hg hnm o hX => ?_)
  subst hg
  have o : Ok Γ "LazyForgeLaw" cX0_run 5 (Option.some Jvm.ClassFile.FieldType.int) (d + 210) := o
  unfold c_X0_run
  refine s_aload_n o dX0_run_0 rfl 3 rfl ?_
  refine s_iconst o dX0_run_1 ?_
  refine s_aload_n o dX0_run_2 rfl 0 rfl ?_
  refine s_iload_n o dX0_run_3 rfl 1 rfl ?_
  refine s_iload_n o dX0_run_4 rfl 2 rfl ?_
  refine s_cvH (d := d + 209) (As := [vI l1, vI l2]) (st := [vI 0, vA (mg Γ) l3]) (c := 1) o hX (sc_X1_run (mg Γ) d ts l0 l1 l2 hl1 hl2) mw_X1_run rfl (lw_all_tbl q2145) rfl (lw_all_tbl q2147) (lw_all_tbl q2146) (wt_I (wt_A wt_0)) rfl dX0_run_5 rfl (rs := fun r => [vI r, vI 0, vA (mg Γ) l3]) (fun _ => rfl) (Lh := fun v2 => [(30, pr 1), (28, pr 2), (29, pr 3)]) (fun v2 => ⟨⟨13, ⟨by decide, [], ⟨0, 10, 13, 31⟩, [⟨0, 10, 17, 13⟩, ⟨0, 10, 21, 15⟩], _, rfl, rfl, by decide, by decide, rfl, (lw_all_tbl q1904), trivial⟩, ?_⟩, ⟨⟨17, ⟨by decide, [⟨0, 10, 13, 31⟩], ⟨0, 10, 17, 13⟩, [⟨0, 10, 21, 15⟩], _, rfl, rfl, by decide, by decide, rfl, (lw_all_tbl q485), ⟨Or.inr ⟨by decide, _, (lw_all_tbl q1904), by decide +kernel⟩, trivial⟩⟩, ?_⟩, ⟨⟨21, ⟨by decide, [⟨0, 10, 13, 31⟩, ⟨0, 10, 17, 13⟩], ⟨0, 10, 21, 15⟩, [], _, rfl, rfl, by decide, by decide, rfl, (lw_all_tbl q486), ⟨Or.inr ⟨by decide, _, (lw_all_tbl q1904), by decide +kernel⟩, ⟨Or.inr ⟨by decide, _, (lw_all_tbl q485), by decide +kernel⟩, trivial⟩⟩⟩, ?_⟩, trivial⟩⟩⟩) (fun v1 hv1 => ?_)
  · refine r_astore o dX0_run_13 rfl ⟨(Nat.ne_of_beq_eq_false rfl), (fun _ => (vA_cat (mg Γ) l0)), ⟨(Nat.ne_of_beq_eq_false rfl), (fun _ => rfl), ⟨(Nat.ne_of_beq_eq_false rfl), (fun _ => rfl), ⟨(Nat.ne_of_beq_eq_false rfl), (fun _ => (vA_cat (mg Γ) l3)), trivial⟩⟩⟩⟩ ?_
    refine s_iconst o dX0_run_15 ?_
    exact s_iret o rfl i_int (r32 rfl) dX0_run_16 (fun _ hh => hh)
  · refine r_astore o dX0_run_17 rfl ⟨(Nat.ne_of_beq_eq_false rfl), (fun _ => (vA_cat (mg Γ) l0)), ⟨(Nat.ne_of_beq_eq_false rfl), (fun _ => rfl), ⟨(Nat.ne_of_beq_eq_false rfl), (fun _ => rfl), ⟨(Nat.ne_of_beq_eq_false rfl), (fun _ => (vA_cat (mg Γ) l3)), trivial⟩⟩⟩⟩ ?_
    refine s_iconst o dX0_run_19 ?_
    exact s_iret o rfl i_int (r32 rfl) dX0_run_20 (fun _ hh => hh)
  · refine r_astore o dX0_run_21 rfl ⟨(Nat.ne_of_beq_eq_false rfl), (fun _ => (vA_cat (mg Γ) l0)), ⟨(Nat.ne_of_beq_eq_false rfl), (fun _ => rfl), ⟨(Nat.ne_of_beq_eq_false rfl), (fun _ => rfl), ⟨(Nat.ne_of_beq_eq_false rfl), (fun _ => (vA_cat (mg Γ) l3)), trivial⟩⟩⟩⟩ ?_
    refine s_iconst o dX0_run_23 ?_
    exact s_iret o rfl i_int (r32 rfl) dX0_run_24 (fun _ hh => hh)
  refine s_i2l o dX0_run_8 (hv1 _ rfl) ?_
  refine r_last o (r32 rfl) (rL (hv1 _ rfl)) dX0_run_9 ?_
  refine s_goto (tgt := 25) o dX0_run_10 (by decide) ?_
  refine s_iconst o dX0_run_25 ?_
  exact s_iret o rfl i_int (r32 rfl) dX0_run_26 (fun _ hh => hh)
theorem dX0_result_0 : decode cX0_result 0 = .ok (.aload_n 2, 1) := by decide +kernel
theorem dX0_result_1 : decode cX0_result 1 = .ok (.iconst 0, 1) := by decide +kernel
theorem dX0_result_2 : decode cX0_result 2 = .ok (.aload_n 0, 1) := by decide +kernel
theorem dX0_result_3 : decode cX0_result 3 = .ok (.iload_n 1, 1) := by decide +kernel
theorem dX0_result_4 : decode cX0_result 4 = .ok (.invokevirtual 53, 3) := by decide +kernel
theorem dX0_result_7 : decode cX0_result 7 = .ok (.i2l, 1) := by decide +kernel
theorem dX0_result_8 : decode cX0_result 8 = .ok (.lastore, 1) := by decide +kernel
theorem dX0_result_9 : decode cX0_result 9 = .ok (.goto 6, 3) := by decide +kernel
theorem dX0_result_12 : decode cX0_result 12 = .ok (.astore_n 3, 1) := by decide +kernel
theorem dX0_result_13 : decode cX0_result 13 = .ok (.iconst 1, 1) := by decide +kernel
theorem dX0_result_14 : decode cX0_result 14 = .ok (.ireturn, 1) := by decide +kernel
theorem dX0_result_15 : decode cX0_result 15 = .ok (.iconst 0, 1) := by decide +kernel
theorem dX0_result_16 : decode cX0_result 16 = .ok (.ireturn, 1) := by decide +kernel
noncomputable def c_X0_result (l0 : Int) (l1 : Int) (l2 : Int) : Mo CH Int :=
  bnd (isk 101 l0) fun _ =>
  bndH (c_X1_result l0 l1) (fun v1 =>
  bnd (ast 1 l2 0 v1) fun _ =>
  pr 0)
  (fun v2 => hdl v2 [(28, pr 1)])
theorem sc_X0_result (g : gC) (d : Nat) (ts : TS) (l0 : Int) (l1 : Int) (l2 : Int) (hl1 : R32 l1) : SF g yX0_result (Cond.codeWith yX0_result cX0_result 4 (Option.some Jvm.ClassFile.FieldType.int) [(0, 9, 12, 13)]) (Option.some Jvm.ClassFile.FieldType.int) (d + 9) [vA g l0, vI l1, vA g l2] (fun h => (h, ts)) (c_X0_result l0 l1 l2) := by
  refine SW.of (lv := [(0, vA g l0), (1, vI l1), (2, vA g l2)]) (by decide) (wt_A (wt_I (wt_A wt_0))) rfl (by simp only [la_A, la_I, la_J, la_0]) (fun Γ hg hnm o hX => ?_)
  subst hg
  have o : Ok Γ "LazyForgeLaw" cX0_result 4 (Option.some Jvm.ClassFile.FieldType.int) (d + 9) := o
  unfold c_X0_result
  refine s_aload_n o dX0_result_0 rfl 2 rfl ?_
  refine s_iconst o dX0_result_1 ?_
  refine s_aload_n o dX0_result_2 rfl 0 rfl ?_
  refine s_iload_n o dX0_result_3 rfl 1 rfl ?_
  refine s_cvH (d := d + 8) (As := [vI l1]) (st := [vI 0, vA (mg Γ) l2]) (c := 1) o hX (sc_X1_result (mg Γ) d ts l0 l1 hl1) mw_X1_result rfl (lw_all_tbl q2469) rfl (lw_all_tbl q2471) (lw_all_tbl q2470) (wt_I (wt_A wt_0)) rfl dX0_result_4 rfl (rs := fun r => [vI r, vI 0, vA (mg Γ) l2]) (fun _ => rfl) (Lh := fun v2 => [(28, pr 1)]) (fun v2 => ⟨⟨12, ⟨by decide, [], ⟨0, 9, 12, 13⟩, [], _, rfl, rfl, by decide, by decide, rfl, (lw_all_tbl q485), trivial⟩, ?_⟩, trivial⟩) (fun v1 hv1 => ?_)
  · refine r_astore_n o dX0_result_12 rfl rfl ⟨(Nat.ne_of_beq_eq_false rfl), (fun _ => (vA_cat (mg Γ) l0)), ⟨(Nat.ne_of_beq_eq_false rfl), (fun _ => rfl), ⟨(Nat.ne_of_beq_eq_false rfl), (fun _ => (vA_cat (mg Γ) l2)), trivial⟩⟩⟩ ?_
    refine s_iconst o dX0_result_13 ?_
    exact s_iret o rfl i_int (r32 rfl) dX0_result_14 (fun _ hh => hh)
  refine s_i2l o dX0_result_7 (hv1 _ rfl) ?_
  refine r_last o (r32 rfl) (rL (hv1 _ rfl)) dX0_result_8 ?_
  refine s_goto (tgt := 15) o dX0_result_9 (by decide) ?_
  refine s_iconst o dX0_result_15 ?_
  exact s_iret o rfl i_int (r32 rfl) dX0_result_16 (fun _ hh => hh)
theorem dX0_number_0 : decode cX0_number 0 = .ok (.aload_n 2, 1) := by decide +kernel
theorem dX0_number_1 : decode cX0_number 1 = .ok (.iconst 0, 1) := by decide +kernel
theorem dX0_number_2 : decode cX0_number 2 = .ok (.aload_n 0, 1) := by decide +kernel
theorem dX0_number_3 : decode cX0_number 3 = .ok (.iload_n 1, 1) := by decide +kernel
theorem dX0_number_4 : decode cX0_number 4 = .ok (.invokevirtual 56, 3) := by decide +kernel
theorem dX0_number_7 : decode cX0_number 7 = .ok (.i2l, 1) := by decide +kernel
theorem dX0_number_8 : decode cX0_number 8 = .ok (.lastore, 1) := by decide +kernel
theorem dX0_number_9 : decode cX0_number 9 = .ok (.goto 6, 3) := by decide +kernel
theorem dX0_number_12 : decode cX0_number 12 = .ok (.astore_n 3, 1) := by decide +kernel
theorem dX0_number_13 : decode cX0_number 13 = .ok (.iconst 1, 1) := by decide +kernel
theorem dX0_number_14 : decode cX0_number 14 = .ok (.ireturn, 1) := by decide +kernel
theorem dX0_number_15 : decode cX0_number 15 = .ok (.iconst 0, 1) := by decide +kernel
theorem dX0_number_16 : decode cX0_number 16 = .ok (.ireturn, 1) := by decide +kernel
noncomputable def c_X0_number (l0 : Int) (l1 : Int) (l2 : Int) : Mo CH Int :=
  bnd (isk 101 l0) fun _ =>
  bndH (c_X1_number l0 l1) (fun v1 =>
  bnd (ast 1 l2 0 v1) fun _ =>
  pr 0)
  (fun v2 => hdl v2 [(31, pr 1)])
theorem sc_X0_number (g : gC) (d : Nat) (ts : TS) (l0 : Int) (l1 : Int) (l2 : Int) (hl1 : R32 l1) : SF g yX0_number (Cond.codeWith yX0_number cX0_number 4 (Option.some Jvm.ClassFile.FieldType.int) [(0, 9, 12, 36)]) (Option.some Jvm.ClassFile.FieldType.int) (d + 9) [vA g l0, vI l1, vA g l2] (fun h => (h, ts)) (c_X0_number l0 l1 l2) := by
  refine SW.of (lv := [(0, vA g l0), (1, vI l1), (2, vA g l2)]) (by decide) (wt_A (wt_I (wt_A wt_0))) rfl (by simp only [la_A, la_I, la_J, la_0]) (fun Γ hg hnm o hX => ?_)
  subst hg
  have o : Ok Γ "LazyForgeLaw" cX0_number 4 (Option.some Jvm.ClassFile.FieldType.int) (d + 9) := o
  unfold c_X0_number
  refine s_aload_n o dX0_number_0 rfl 2 rfl ?_
  refine s_iconst o dX0_number_1 ?_
  refine s_aload_n o dX0_number_2 rfl 0 rfl ?_
  refine s_iload_n o dX0_number_3 rfl 1 rfl ?_
  refine s_cvH (d := d + 8) (As := [vI l1]) (st := [vI 0, vA (mg Γ) l2]) (c := 1) o hX (sc_X1_number (mg Γ) d ts l0 l1 hl1) mw_X1_number rfl (lw_all_tbl q2476) rfl (lw_all_tbl q2478) (lw_all_tbl q2477) (wt_I (wt_A wt_0)) rfl dX0_number_4 rfl (rs := fun r => [vI r, vI 0, vA (mg Γ) l2]) (fun _ => rfl) (Lh := fun v2 => [(31, pr 1)]) (fun v2 => ⟨⟨12, ⟨by decide, [], ⟨0, 9, 12, 36⟩, [], _, rfl, rfl, by decide, by decide, rfl, (lw_all_tbl q2061), trivial⟩, ?_⟩, trivial⟩) (fun v1 hv1 => ?_)
  · refine r_astore_n o dX0_number_12 rfl rfl ⟨(Nat.ne_of_beq_eq_false rfl), (fun _ => (vA_cat (mg Γ) l0)), ⟨(Nat.ne_of_beq_eq_false rfl), (fun _ => rfl), ⟨(Nat.ne_of_beq_eq_false rfl), (fun _ => (vA_cat (mg Γ) l2)), trivial⟩⟩⟩ ?_
    refine s_iconst o dX0_number_13 ?_
    exact s_iret o rfl i_int (r32 rfl) dX0_number_14 (fun _ hh => hh)
  refine s_i2l o dX0_number_7 (hv1 _ rfl) ?_
  refine r_last o (r32 rfl) (rL (hv1 _ rfl)) dX0_number_8 ?_
  refine s_goto (tgt := 15) o dX0_number_9 (by decide) ?_
  refine s_iconst o dX0_number_15 ?_
  exact s_iret o rfl i_int (r32 rfl) dX0_number_16 (fun _ hh => hh)
theorem dX0_called_0 : decode cX0_called 0 = .ok (.aload_n 2, 1) := by decide +kernel
theorem dX0_called_1 : decode cX0_called 1 = .ok (.iconst 0, 1) := by decide +kernel
theorem dX0_called_2 : decode cX0_called 2 = .ok (.aload_n 0, 1) := by decide +kernel
theorem dX0_called_3 : decode cX0_called 3 = .ok (.iload_n 1, 1) := by decide +kernel
theorem dX0_called_4 : decode cX0_called 4 = .ok (.invokevirtual 59, 3) := by decide +kernel
theorem dX0_called_7 : decode cX0_called 7 = .ok (.i2l, 1) := by decide +kernel
theorem dX0_called_8 : decode cX0_called 8 = .ok (.lastore, 1) := by decide +kernel
theorem dX0_called_9 : decode cX0_called 9 = .ok (.goto 9, 3) := by decide +kernel
theorem dX0_called_12 : decode cX0_called 12 = .ok (.astore_n 3, 1) := by decide +kernel
theorem dX0_called_13 : decode cX0_called 13 = .ok (.iconst 1, 1) := by decide +kernel
theorem dX0_called_14 : decode cX0_called 14 = .ok (.ireturn, 1) := by decide +kernel
theorem dX0_called_15 : decode cX0_called 15 = .ok (.astore_n 3, 1) := by decide +kernel
theorem dX0_called_16 : decode cX0_called 16 = .ok (.iconst 2, 1) := by decide +kernel
theorem dX0_called_17 : decode cX0_called 17 = .ok (.ireturn, 1) := by decide +kernel
theorem dX0_called_18 : decode cX0_called 18 = .ok (.iconst 0, 1) := by decide +kernel
theorem dX0_called_19 : decode cX0_called 19 = .ok (.ireturn, 1) := by decide +kernel
noncomputable def c_X0_called (l0 : Int) (l1 : Int) (l2 : Int) : Mo CH Int :=
  bnd (isk 101 l0) fun _ =>
  bndH (c_X1_called l0 l1) (fun v1 =>
  bnd (ast 1 l2 0 v1) fun _ =>
  pr 0)
  (fun v2 => hdl v2 [(30, pr 1), (31, pr 2)])
theorem sc_X0_called (g : gC) (d : Nat) (ts : TS) (l0 : Int) (l1 : Int) (l2 : Int) (hl1 : R32 l1) : SF g yX0_called (Cond.codeWith yX0_called cX0_called 4 (Option.some Jvm.ClassFile.FieldType.int) [(0, 9, 12, 31), (0, 9, 15, 36)]) (Option.some Jvm.ClassFile.FieldType.int) (d + 11) [vA g l0, vI l1, vA g l2] (fun h => (h, ts)) (c_X0_called l0 l1 l2) := by
  refine SW.of (lv := [(0, vA g l0), (1, vI l1), (2, vA g l2)]) (by decide) (wt_A (wt_I (wt_A wt_0))) rfl (by simp only [la_A, la_I, la_J, la_0]) (fun Γ hg hnm o hX => ?_)
  subst hg
  have o : Ok Γ "LazyForgeLaw" cX0_called 4 (Option.some Jvm.ClassFile.FieldType.int) (d + 11) := o
  unfold c_X0_called
  refine s_aload_n o dX0_called_0 rfl 2 rfl ?_
  refine s_iconst o dX0_called_1 ?_
  refine s_aload_n o dX0_called_2 rfl 0 rfl ?_
  refine s_iload_n o dX0_called_3 rfl 1 rfl ?_
  refine s_cvH (d := d + 10) (As := [vI l1]) (st := [vI 0, vA (mg Γ) l2]) (c := 1) o hX (sc_X1_called (mg Γ) d ts l0 l1 hl1) mw_X1_called rfl (lw_all_tbl q2483) rfl (lw_all_tbl q2485) (lw_all_tbl q2484) (wt_I (wt_A wt_0)) rfl dX0_called_4 rfl (rs := fun r => [vI r, vI 0, vA (mg Γ) l2]) (fun _ => rfl) (Lh := fun v2 => [(30, pr 1), (31, pr 2)]) (fun v2 => ⟨⟨12, ⟨by decide, [], ⟨0, 9, 12, 31⟩, [⟨0, 9, 15, 36⟩], _, rfl, rfl, by decide, by decide, rfl, (lw_all_tbl q1904), trivial⟩, ?_⟩, ⟨⟨15, ⟨by decide, [⟨0, 9, 12, 31⟩], ⟨0, 9, 15, 36⟩, [], _, rfl, rfl, by decide, by decide, rfl, (lw_all_tbl q2061), ⟨Or.inr ⟨by decide, _, (lw_all_tbl q1904), by decide +kernel⟩, trivial⟩⟩, ?_⟩, trivial⟩⟩) (fun v1 hv1 => ?_)
  · refine r_astore_n o dX0_called_12 rfl rfl ⟨(Nat.ne_of_beq_eq_false rfl), (fun _ => (vA_cat (mg Γ) l0)), ⟨(Nat.ne_of_beq_eq_false rfl), (fun _ => rfl), ⟨(Nat.ne_of_beq_eq_false rfl), (fun _ => (vA_cat (mg Γ) l2)), trivial⟩⟩⟩ ?_
    refine s_iconst o dX0_called_13 ?_
    exact s_iret o rfl i_int (r32 rfl) dX0_called_14 (fun _ hh => hh)
  · refine r_astore_n o dX0_called_15 rfl rfl ⟨(Nat.ne_of_beq_eq_false rfl), (fun _ => (vA_cat (mg Γ) l0)), ⟨(Nat.ne_of_beq_eq_false rfl), (fun _ => rfl), ⟨(Nat.ne_of_beq_eq_false rfl), (fun _ => (vA_cat (mg Γ) l2)), trivial⟩⟩⟩ ?_
    refine s_iconst o dX0_called_16 ?_
    exact s_iret o rfl i_int (r32 rfl) dX0_called_17 (fun _ hh => hh)
  refine s_i2l o dX0_called_7 (hv1 _ rfl) ?_
  refine r_last o (r32 rfl) (rL (hv1 _ rfl)) dX0_called_8 ?_
  refine s_goto (tgt := 18) o dX0_called_9 (by decide) ?_
  refine s_iconst o dX0_called_18 ?_
  exact s_iret o rfl i_int (r32 rfl) dX0_called_19 (fun _ hh => hh)
theorem dX0_about_0 : decode cX0_about 0 = .ok (.aload_n 2, 1) := by decide +kernel
theorem dX0_about_1 : decode cX0_about 1 = .ok (.iconst 0, 1) := by decide +kernel
theorem dX0_about_2 : decode cX0_about 2 = .ok (.aload_n 0, 1) := by decide +kernel
theorem dX0_about_3 : decode cX0_about 3 = .ok (.iload_n 1, 1) := by decide +kernel
theorem dX0_about_4 : decode cX0_about 4 = .ok (.invokevirtual 62, 3) := by decide +kernel
theorem dX0_about_7 : decode cX0_about 7 = .ok (.i2l, 1) := by decide +kernel
theorem dX0_about_8 : decode cX0_about 8 = .ok (.lastore, 1) := by decide +kernel
theorem dX0_about_9 : decode cX0_about 9 = .ok (.goto 6, 3) := by decide +kernel
theorem dX0_about_12 : decode cX0_about 12 = .ok (.astore_n 3, 1) := by decide +kernel
theorem dX0_about_13 : decode cX0_about 13 = .ok (.iconst 1, 1) := by decide +kernel
theorem dX0_about_14 : decode cX0_about 14 = .ok (.ireturn, 1) := by decide +kernel
theorem dX0_about_15 : decode cX0_about 15 = .ok (.iconst 0, 1) := by decide +kernel
theorem dX0_about_16 : decode cX0_about 16 = .ok (.ireturn, 1) := by decide +kernel
noncomputable def c_X0_about (l0 : Int) (l1 : Int) (l2 : Int) : Mo CH Int :=
  bnd (isk 101 l0) fun _ =>
  bndH (c_X1_about l0 l1) (fun v1 =>
  bnd (ast 1 l2 0 v1) fun _ =>
  pr 0)
  (fun v2 => hdl v2 [(28, pr 1)])
theorem sc_X0_about (g : gC) (d : Nat) (ts : TS) (l0 : Int) (l1 : Int) (l2 : Int) (hl1 : R32 l1) : SF g yX0_about (Cond.codeWith yX0_about cX0_about 4 (Option.some Jvm.ClassFile.FieldType.int) [(0, 9, 12, 13)]) (Option.some Jvm.ClassFile.FieldType.int) (d + 9) [vA g l0, vI l1, vA g l2] (fun h => (h, ts)) (c_X0_about l0 l1 l2) := by
  refine SW.of (lv := [(0, vA g l0), (1, vI l1), (2, vA g l2)]) (by decide) (wt_A (wt_I (wt_A wt_0))) rfl (by simp only [la_A, la_I, la_J, la_0]) (fun Γ hg hnm o hX => ?_)
  subst hg
  have o : Ok Γ "LazyForgeLaw" cX0_about 4 (Option.some Jvm.ClassFile.FieldType.int) (d + 9) := o
  unfold c_X0_about
  refine s_aload_n o dX0_about_0 rfl 2 rfl ?_
  refine s_iconst o dX0_about_1 ?_
  refine s_aload_n o dX0_about_2 rfl 0 rfl ?_
  refine s_iload_n o dX0_about_3 rfl 1 rfl ?_
  refine s_cvH (d := d + 8) (As := [vI l1]) (st := [vI 0, vA (mg Γ) l2]) (c := 1) o hX (sc_X1_about (mg Γ) d ts l0 l1 hl1) mw_X1_about rfl (lw_all_tbl q2490) rfl (lw_all_tbl q2492) (lw_all_tbl q2491) (wt_I (wt_A wt_0)) rfl dX0_about_4 rfl (rs := fun r => [vI r, vI 0, vA (mg Γ) l2]) (fun _ => rfl) (Lh := fun v2 => [(28, pr 1)]) (fun v2 => ⟨⟨12, ⟨by decide, [], ⟨0, 9, 12, 13⟩, [], _, rfl, rfl, by decide, by decide, rfl, (lw_all_tbl q485), trivial⟩, ?_⟩, trivial⟩) (fun v1 hv1 => ?_)
  · refine r_astore_n o dX0_about_12 rfl rfl ⟨(Nat.ne_of_beq_eq_false rfl), (fun _ => (vA_cat (mg Γ) l0)), ⟨(Nat.ne_of_beq_eq_false rfl), (fun _ => rfl), ⟨(Nat.ne_of_beq_eq_false rfl), (fun _ => (vA_cat (mg Γ) l2)), trivial⟩⟩⟩ ?_
    refine s_iconst o dX0_about_13 ?_
    exact s_iret o rfl i_int (r32 rfl) dX0_about_14 (fun _ hh => hh)
  refine s_i2l o dX0_about_7 (hv1 _ rfl) ?_
  refine r_last o (r32 rfl) (rL (hv1 _ rfl)) dX0_about_8 ?_
  refine s_goto (tgt := 15) o dX0_about_9 (by decide) ?_
  refine s_iconst o dX0_about_15 ?_
  exact s_iret o rfl i_int (r32 rfl) dX0_about_16 (fun _ hh => hh)
