/-! PRINTED: the component, 159 to 184 -/
set_option maxRecDepth 100000
theorem dJ13_indexOfRange_0 : decode cJ13_indexOfRange 0 = .ok (.aload_n 0, 1) := by decide +kernel
theorem dJ13_indexOfRange_1 : decode cJ13_indexOfRange 1 = .ok (.getfield 9, 3) := by decide +kernel
theorem dJ13_indexOfRange_4 : decode cJ13_indexOfRange 4 = .ok (.astore 4, 2) := by decide +kernel
theorem dJ13_indexOfRange_6 : decode cJ13_indexOfRange 6 = .ok (.aload_n 1, 1) := by decide +kernel
theorem dJ13_indexOfRange_7 : decode cJ13_indexOfRange 7 = .ok (.ifnonnull 32, 3) := by decide +kernel
theorem dJ13_indexOfRange_10 : decode cJ13_indexOfRange 10 = .ok (.iload_n 2, 1) := by decide +kernel
theorem dJ13_indexOfRange_11 : decode cJ13_indexOfRange 11 = .ok (.istore 5, 2) := by decide +kernel
theorem dJ13_indexOfRange_13 : decode cJ13_indexOfRange 13 = .ok (.iload 5, 2) := by decide +kernel
theorem dJ13_indexOfRange_15 : decode cJ13_indexOfRange 15 = .ok (.iload_n 3, 1) := by decide +kernel
theorem dJ13_indexOfRange_16 : decode cJ13_indexOfRange 16 = .ok (.if_icmp .ge 20, 3) := by decide +kernel
theorem dJ13_indexOfRange_19 : decode cJ13_indexOfRange 19 = .ok (.aload 4, 2) := by decide +kernel
theorem dJ13_indexOfRange_21 : decode cJ13_indexOfRange 21 = .ok (.iload 5, 2) := by decide +kernel
theorem dJ13_indexOfRange_23 : decode cJ13_indexOfRange 23 = .ok (.aaload, 1) := by decide +kernel
theorem dJ13_indexOfRange_24 : decode cJ13_indexOfRange 24 = .ok (.ifnonnull 6, 3) := by decide +kernel
theorem dJ13_indexOfRange_27 : decode cJ13_indexOfRange 27 = .ok (.iload 5, 2) := by decide +kernel
theorem dJ13_indexOfRange_29 : decode cJ13_indexOfRange 29 = .ok (.ireturn, 1) := by decide +kernel
theorem dJ13_indexOfRange_30 : decode cJ13_indexOfRange 30 = .ok (.iinc 5 1, 3) := by decide +kernel
theorem dJ13_indexOfRange_33 : decode cJ13_indexOfRange 33 = .ok (.goto (-20), 3) := by decide +kernel
theorem dJ13_indexOfRange_36 : decode cJ13_indexOfRange 36 = .ok (.goto 33, 3) := by decide +kernel
theorem dJ13_indexOfRange_39 : decode cJ13_indexOfRange 39 = .ok (.iload_n 2, 1) := by decide +kernel
theorem dJ13_indexOfRange_40 : decode cJ13_indexOfRange 40 = .ok (.istore 5, 2) := by decide +kernel
theorem dJ13_indexOfRange_42 : decode cJ13_indexOfRange 42 = .ok (.iload 5, 2) := by decide +kernel
theorem dJ13_indexOfRange_44 : decode cJ13_indexOfRange 44 = .ok (.iload_n 3, 1) := by decide +kernel
theorem dJ13_indexOfRange_45 : decode cJ13_indexOfRange 45 = .ok (.if_icmp .ge 24, 3) := by decide +kernel
theorem dJ13_indexOfRange_48 : decode cJ13_indexOfRange 48 = .ok (.aload_n 1, 1) := by decide +kernel
theorem dJ13_indexOfRange_49 : decode cJ13_indexOfRange 49 = .ok (.aload 4, 2) := by decide +kernel
theorem dJ13_indexOfRange_51 : decode cJ13_indexOfRange 51 = .ok (.iload 5, 2) := by decide +kernel
theorem dJ13_indexOfRange_53 : decode cJ13_indexOfRange 53 = .ok (.aaload, 1) := by decide +kernel
theorem dJ13_indexOfRange_54 : decode cJ13_indexOfRange 54 = .ok (.invokevirtual 93, 3) := by decide +kernel
theorem dJ13_indexOfRange_57 : decode cJ13_indexOfRange 57 = .ok (.ifCond .eq 6, 3) := by decide +kernel
theorem dJ13_indexOfRange_60 : decode cJ13_indexOfRange 60 = .ok (.iload 5, 2) := by decide +kernel
theorem dJ13_indexOfRange_62 : decode cJ13_indexOfRange 62 = .ok (.ireturn, 1) := by decide +kernel
theorem dJ13_indexOfRange_63 : decode cJ13_indexOfRange 63 = .ok (.iinc 5 1, 3) := by decide +kernel
theorem dJ13_indexOfRange_66 : decode cJ13_indexOfRange 66 = .ok (.goto (-24), 3) := by decide +kernel
theorem dJ13_indexOfRange_69 : decode cJ13_indexOfRange 69 = .ok (.iconst (-1), 1) := by decide +kernel
theorem dJ13_indexOfRange_70 : decode cJ13_indexOfRange 70 = .ok (.ireturn, 1) := by decide +kernel
theorem mw_J13_indexOfRange : MW yJ13_indexOfRange (Cond.code yJ13_indexOfRange cJ13_indexOfRange 6 (Option.some Jvm.ClassFile.FieldType.int)) cJ13_indexOfRange 6 (Option.some Jvm.ClassFile.FieldType.int) 3 := ⟨rfl, ⟨(lw_all_tbl q1396), rfl, (lw_all_tbl q192)⟩, rfl, ⟨by decide, by decide⟩, by decide +kernel⟩
abbrev okc_J13_indexOfRange_13 (x : Int × Int × Int) : Prop := R32 x.1 ∧ R32 x.2.2
abbrev lvc_J13_indexOfRange_13 (Γ : Gm) (x : Int × Int × Int) : List (Nat × Value) := [(3, vI x.1), (4, vA (mg Γ) x.2.1), (5, vI x.2.2)]
noncomputable def c_J13_indexOfRange_13b {A : Type} (k_27 : Int → Mo CH A) (k_36 : Mo CH A) (l3 : Int) (l4 : Int) (l5 : Int) : Mo CH ((Int × Int × Int) ⊕ A) :=
  if l3 ≤ l5 then
    lo k_36
  else
    bnd (ald 10 l4 l5) fun v1 =>
    if ¬ v1 = 0 then
      pr (.inl (l3, l4, (w32 (l5 + 1))))
    else
      lo (k_27 l5)
theorem sc_J13_indexOfRange_13b {Γ : Gm} {ts : TS} {d : Nat} (o : Ok Γ "java/util/ArrayList" cJ13_indexOfRange 6 (Option.some Jvm.ClassFile.FieldType.int) (d + 1)) {A : Type} {K : A → CH → Prop} (k_27 : Int → Mo CH A) (k_36 : Mo CH A) (hk_27 : ∀ (l5 : Int), R32 l5 → Sx Γ (fun h => (h, ts)) K 27 [(5, vI l5)] [] (k_27 l5)) (hk_36 : Sx Γ (fun h => (h, ts)) K 36 [] [] (k_36)) (l3 : Int) (l4 : Int) (l5 : Int) (hl3 : R32 l3) (hl5 : R32 l5) : Sx Γ (fun h => (h, ts)) (KL Γ (fun h => (h, ts)) okc_J13_indexOfRange_13 K 13 (lvc_J13_indexOfRange_13 Γ) []) 13 [(3, vI l3), (4, vA (mg Γ) l4), (5, vI l5)] [] (c_J13_indexOfRange_13b k_27 k_36 l3 l4 l5) := by
  unfold c_J13_indexOfRange_13b
  refine s_iload o dJ13_indexOfRange_13 2 rfl ?_
  refine s_iload_n o dJ13_indexOfRange_15 rfl 0 rfl ?_
  refine s_icmp_ge (tgt := 36) o dJ13_indexOfRange_16 (by decide) hl5 hl3 ?_ ?_
  · refine r_to [] [] rfl ?_
    exact s_lo hk_36
  · refine s_aload o dJ13_indexOfRange_19 1 rfl ?_
    refine s_iload o dJ13_indexOfRange_21 2 rfl ?_
    refine r_aald (kd := 10) o (by decide) rfl hl5 dJ13_indexOfRange_23 (fun v1 => ?_)
    refine s_ifnonnull (tgt := 30) o dJ13_indexOfRange_24 (by decide) ?_ ?_
    · refine r_iinc (j := 2) o dJ13_indexOfRange_30 rfl rfl [(3, vI l3), (4, vA (mg Γ) l4)] [0, 1] rfl ⟨(Nat.ne_of_beq_eq_false rfl), (fun _ => rfl), ⟨(Nat.ne_of_beq_eq_false rfl), (fun _ => (vA_cat (mg Γ) l4)), trivial⟩⟩ ?_
      refine s_goto (tgt := 13) o dJ13_indexOfRange_33 (by decide) ?_
      refine r_to [(3, vI l3), (4, vA (mg Γ) l4), (5, vI (w32 (l5 + 1)))] [1, 2, 0] rfl ?_
      exact s_back (⟨hl3, (w32_R _)⟩) rfl
    · refine r_to [(5, vI l5)] [2] rfl ?_
      exact s_lo (hk_27 l5 hl5)
noncomputable def c_J13_indexOfRange_13 {A : Type} (k_27 : Int → Mo CH A) (k_36 : Mo CH A) (l3 : Int) (l4 : Int) (l5 : Int) : Mo CH A := Loop (fun x => c_J13_indexOfRange_13b k_27 k_36 x.1 x.2.1 x.2.2) (l3, l4, l5)
theorem sc_J13_indexOfRange_13 {Γ : Gm} {ts : TS} {d : Nat} (o : Ok Γ "java/util/ArrayList" cJ13_indexOfRange 6 (Option.some Jvm.ClassFile.FieldType.int) (d + 1)) {A : Type} {K : A → CH → Prop} (k_27 : Int → Mo CH A) (k_36 : Mo CH A) (hk_27 : ∀ (l5 : Int), R32 l5 → Sx Γ (fun h => (h, ts)) K 27 [(5, vI l5)] [] (k_27 l5)) (hk_36 : Sx Γ (fun h => (h, ts)) K 36 [] [] (k_36)) (l3 : Int) (l4 : Int) (l5 : Int) (hl3 : R32 l3) (hl5 : R32 l5) : Sx Γ (fun h => (h, ts)) K 13 [(3, vI l3), (4, vA (mg Γ) l4), (5, vI l5)] [] (c_J13_indexOfRange_13 k_27 k_36 l3 l4 l5) :=
  s_loop okc_J13_indexOfRange_13 (lvc_J13_indexOfRange_13 Γ) (fun x hx => sc_J13_indexOfRange_13b o k_27 k_36 hk_27 hk_36 x.1 x.2.1 x.2.2 hx.1 hx.2) (x := (l3, l4, l5)) ⟨hl3, hl5⟩
abbrev okc_J13_indexOfRange_42 (x : Int × Int × Int × Int) : Prop := R32 x.2.1 ∧ R32 x.2.2.2
abbrev lvc_J13_indexOfRange_42 (Γ : Gm) (x : Int × Int × Int × Int) : List (Nat × Value) := [(1, vA (mg Γ) x.1), (3, vI x.2.1), (4, vA (mg Γ) x.2.2.1), (5, vI x.2.2.2)]
noncomputable def c_J13_indexOfRange_42b {A : Type} (k_60 : Int → Mo CH A) (k_69 : Mo CH A) (l1 : Int) (l3 : Int) (l4 : Int) (l5 : Int) : Mo CH ((Int × Int × Int × Int) ⊕ A) :=
  if l3 ≤ l5 then
    lo k_69
  else
    bnd (ald 10 l4 l5) fun v1 =>
    bnd (oeq l1 v1) fun v2 =>
    if v2 = 0 then
      pr (.inl (l1, l3, l4, (w32 (l5 + 1))))
    else
      lo (k_60 l5)
theorem sc_J13_indexOfRange_42b {Γ : Gm} {ts : TS} {d : Nat} (o : Ok Γ "java/util/ArrayList" cJ13_indexOfRange 6 (Option.some Jvm.ClassFile.FieldType.int) (d + 1)) {A : Type} {K : A → CH → Prop} (k_60 : Int → Mo CH A) (k_69 : Mo CH A) (hk_60 : ∀ (l5 : Int), R32 l5 → Sx Γ (fun h => (h, ts)) K 60 [(5, vI l5)] [] (k_60 l5)) (hk_69 : Sx Γ (fun h => (h, ts)) K 69 [] [] (k_69)) (l1 : Int) (l3 : Int) (l4 : Int) (l5 : Int) (hl3 : R32 l3) (hl5 : R32 l5) : Sx Γ (fun h => (h, ts)) (KL Γ (fun h => (h, ts)) okc_J13_indexOfRange_42 K 42 (lvc_J13_indexOfRange_42 Γ) []) 42 [(1, vA (mg Γ) l1), (3, vI l3), (4, vA (mg Γ) l4), (5, vI l5)] [] (c_J13_indexOfRange_42b k_60 k_69 l1 l3 l4 l5) := by
  unfold c_J13_indexOfRange_42b
  refine s_iload o dJ13_indexOfRange_42 3 rfl ?_
  refine s_iload_n o dJ13_indexOfRange_44 rfl 1 rfl ?_
  refine s_icmp_ge (tgt := 69) o dJ13_indexOfRange_45 (by decide) hl5 hl3 ?_ ?_
  · refine r_to [] [] rfl ?_
    exact s_lo hk_69
  · refine s_aload_n o dJ13_indexOfRange_48 rfl 0 rfl ?_
    refine s_aload o dJ13_indexOfRange_49 2 rfl ?_
    refine s_iload o dJ13_indexOfRange_51 3 rfl ?_
    refine r_aald (kd := 10) o (by decide) rfl hl5 dJ13_indexOfRange_53 (fun v1 => ?_)
    refine s_oeq (d := d + 0) o (lw_all_tbl q1398) wt_0 rfl dJ13_indexOfRange_54 (fun v2 hv2 => ?_)
    refine s_if_eq (tgt := 63) o dJ13_indexOfRange_57 (by decide) (rZ hv2) ?_ ?_
    · refine r_iinc (j := 3) o dJ13_indexOfRange_63 rfl rfl [(1, vA (mg Γ) l1), (3, vI l3), (4, vA (mg Γ) l4)] [0, 1, 2] rfl ⟨(Nat.ne_of_beq_eq_false rfl), (fun _ => (vA_cat (mg Γ) l1)), ⟨(Nat.ne_of_beq_eq_false rfl), (fun _ => rfl), ⟨(Nat.ne_of_beq_eq_false rfl), (fun _ => (vA_cat (mg Γ) l4)), trivial⟩⟩⟩ ?_
      refine s_goto (tgt := 42) o dJ13_indexOfRange_66 (by decide) ?_
      refine r_to [(1, vA (mg Γ) l1), (3, vI l3), (4, vA (mg Γ) l4), (5, vI (w32 (l5 + 1)))] [1, 2, 3, 0] rfl ?_
      exact s_back (⟨hl3, (w32_R _)⟩) rfl
    · refine r_to [(5, vI l5)] [3] rfl ?_
      exact s_lo (hk_60 l5 hl5)
noncomputable def c_J13_indexOfRange_42 {A : Type} (k_60 : Int → Mo CH A) (k_69 : Mo CH A) (l1 : Int) (l3 : Int) (l4 : Int) (l5 : Int) : Mo CH A := Loop (fun x => c_J13_indexOfRange_42b k_60 k_69 x.1 x.2.1 x.2.2.1 x.2.2.2) (l1, l3, l4, l5)
theorem sc_J13_indexOfRange_42 {Γ : Gm} {ts : TS} {d : Nat} (o : Ok Γ "java/util/ArrayList" cJ13_indexOfRange 6 (Option.some Jvm.ClassFile.FieldType.int) (d + 1)) {A : Type} {K : A → CH → Prop} (k_60 : Int → Mo CH A) (k_69 : Mo CH A) (hk_60 : ∀ (l5 : Int), R32 l5 → Sx Γ (fun h => (h, ts)) K 60 [(5, vI l5)] [] (k_60 l5)) (hk_69 : Sx Γ (fun h => (h, ts)) K 69 [] [] (k_69)) (l1 : Int) (l3 : Int) (l4 : Int) (l5 : Int) (hl3 : R32 l3) (hl5 : R32 l5) : Sx Γ (fun h => (h, ts)) K 42 [(1, vA (mg Γ) l1), (3, vI l3), (4, vA (mg Γ) l4), (5, vI l5)] [] (c_J13_indexOfRange_42 k_60 k_69 l1 l3 l4 l5) :=
  s_loop okc_J13_indexOfRange_42 (lvc_J13_indexOfRange_42 Γ) (fun x hx => sc_J13_indexOfRange_42b o k_60 k_69 hk_60 hk_69 x.1 x.2.1 x.2.2.1 x.2.2.2 hx.1 hx.2) (x := (l1, l3, l4, l5)) ⟨hl3, hl5⟩
noncomputable def c_J13_indexOfRange (l0 : Int) (l1 : Int) (l2 : Int) (l3 : Int) : Mo CH Int :=
  bnd (gf [127] 1 l0) fun v1 =>
  if ¬ l1 = 0 then
    c_J13_indexOfRange_42
      (fun v2 => pr v2)
      (pr (-1)) l1 l3 v1 l2
  else
    c_J13_indexOfRange_13
      (fun v3 => pr v3)
      (pr (-1)) l3 v1 l2
theorem sc_J13_indexOfRange (g : gC) (d : Nat) (ts : TS) (l0 : Int) (l1 : Int) (l2 : Int) (l3 : Int) (hl2 : R32 l2) (hl3 : R32 l3) : SF g yJ13_indexOfRange (Cond.code yJ13_indexOfRange cJ13_indexOfRange 6 (Option.some Jvm.ClassFile.FieldType.int)) (Option.some Jvm.ClassFile.FieldType.int) (d + 1) [vA g l0, vA g l1, vI l2, vI l3] (fun h => (h, ts)) (c_J13_indexOfRange l0 l1 l2 l3) := by
  refine SF.of (lv := [(0, vA g l0), (1, vA g l1), (2, vI l2), (3, vI l3)]) (by decide) (wt_A (wt_A (wt_I (wt_I wt_0)))) rfl (by simp only [la_A, la_I, la_J, la_0]) (fun Γ hg hnm o => ?_)
  subst hg
  have o : Ok Γ "java/util/ArrayList" cJ13_indexOfRange 6 (Option.some Jvm.ClassFile.FieldType.int) (d + 1) := o
  unfold c_J13_indexOfRange
  refine s_aload_n o dJ13_indexOfRange_0 rfl 0 rfl ?_
  refine r_getf (vA (mg Γ)) rfl o cf_J13_elementData (Or.inl (lw_all_tbl q1044)) dJ13_indexOfRange_1 (fun v1 hv1 => ?_)
  refine r_astore o dJ13_indexOfRange_4 rfl ⟨(Nat.ne_of_beq_eq_false rfl), (fun _ => (vA_cat (mg Γ) l0)), ⟨(Nat.ne_of_beq_eq_false rfl), (fun _ => (vA_cat (mg Γ) l1)), ⟨(Nat.ne_of_beq_eq_false rfl), (fun _ => rfl), ⟨(Nat.ne_of_beq_eq_false rfl), (fun _ => rfl), trivial⟩⟩⟩⟩ ?_
  refine s_aload_n o dJ13_indexOfRange_6 rfl 2 rfl ?_
  refine s_ifnonnull (tgt := 39) o dJ13_indexOfRange_7 (by decide) ?_ ?_
  · refine s_iload_n o dJ13_indexOfRange_39 rfl 3 rfl ?_
    refine r_istore o dJ13_indexOfRange_40 rfl ⟨(Nat.ne_of_beq_eq_false rfl), (fun _ => (vA_cat (mg Γ) v1)), ⟨(Nat.ne_of_beq_eq_false rfl), (fun _ => (vA_cat (mg Γ) l0)), ⟨(Nat.ne_of_beq_eq_false rfl), (fun _ => (vA_cat (mg Γ) l1)), ⟨(Nat.ne_of_beq_eq_false rfl), (fun _ => rfl), ⟨(Nat.ne_of_beq_eq_false rfl), (fun _ => rfl), trivial⟩⟩⟩⟩⟩ ?_
    refine r_to [(1, vA (mg Γ) l1), (3, vI l3), (4, vA (mg Γ) v1), (5, vI l2)] [3, 5, 1, 0] rfl ?_
    refine sc_J13_indexOfRange_42 o _ _ ?_ ?_ l1 l3 v1 l2 hl3 hl2
    · intro v2 hv2
      refine s_iload o dJ13_indexOfRange_60 0 rfl ?_
      exact s_iret o rfl i_int hv2 dJ13_indexOfRange_62 (fun _ hh => hh)
    · refine s_iconst o dJ13_indexOfRange_69 ?_
      exact s_iret o rfl i_int (r32 rfl) dJ13_indexOfRange_70 (fun _ hh => hh)
  · refine s_iload_n o dJ13_indexOfRange_10 rfl 3 rfl ?_
    refine r_istore o dJ13_indexOfRange_11 rfl ⟨(Nat.ne_of_beq_eq_false rfl), (fun _ => (vA_cat (mg Γ) v1)), ⟨(Nat.ne_of_beq_eq_false rfl), (fun _ => (vA_cat (mg Γ) l0)), ⟨(Nat.ne_of_beq_eq_false rfl), (fun _ => (vA_cat (mg Γ) l1)), ⟨(Nat.ne_of_beq_eq_false rfl), (fun _ => rfl), ⟨(Nat.ne_of_beq_eq_false rfl), (fun _ => rfl), trivial⟩⟩⟩⟩⟩ ?_
    refine r_to [(3, vI l3), (4, vA (mg Γ) v1), (5, vI l2)] [5, 1, 0] rfl ?_
    refine sc_J13_indexOfRange_13 o _ _ ?_ ?_ l3 v1 l2 hl3 hl2
    · intro v3 hv3
      refine s_iload o dJ13_indexOfRange_27 0 rfl ?_
      exact s_iret o rfl i_int hv3 dJ13_indexOfRange_29 (fun _ hh => hh)
    · refine s_goto (tgt := 69) o dJ13_indexOfRange_36 (by decide) ?_
      refine s_iconst o dJ13_indexOfRange_69 ?_
      exact s_iret o rfl i_int (r32 rfl) dJ13_indexOfRange_70 (fun _ hh => hh)
theorem dJ13_indexOf_0 : decode cJ13_indexOf 0 = .ok (.aload_n 0, 1) := by decide +kernel
theorem dJ13_indexOf_1 : decode cJ13_indexOf 1 = .ok (.aload_n 1, 1) := by decide +kernel
theorem dJ13_indexOf_2 : decode cJ13_indexOf 2 = .ok (.iconst 0, 1) := by decide +kernel
theorem dJ13_indexOf_3 : decode cJ13_indexOf 3 = .ok (.aload_n 0, 1) := by decide +kernel
theorem dJ13_indexOf_4 : decode cJ13_indexOf 4 = .ok (.getfield 48, 3) := by decide +kernel
theorem dJ13_indexOf_7 : decode cJ13_indexOf 7 = .ok (.invokevirtual 89, 3) := by decide +kernel
theorem dJ13_indexOf_10 : decode cJ13_indexOf 10 = .ok (.ireturn, 1) := by decide +kernel
theorem mw_J13_indexOf : MW yJ13_indexOf (Cond.code yJ13_indexOf cJ13_indexOf 2 (Option.some Jvm.ClassFile.FieldType.int)) cJ13_indexOf 2 (Option.some Jvm.ClassFile.FieldType.int) 1 := ⟨rfl, ⟨(lw_all_tbl q1392), rfl, (lw_all_tbl q192)⟩, rfl, ⟨by decide, by decide⟩, by decide +kernel⟩
noncomputable def c_J13_indexOf (l0 : Int) (l1 : Int) : Mo CH Int :=
  bnd (gf [127] 2 l0) fun v1 =>
  bnd (isk 127 l0) fun _ =>
  bnd (c_J13_indexOfRange l0 l1 0 v1) fun v2 =>
  pr v2
theorem sc_J13_indexOf (g : gC) (d : Nat) (ts : TS) (l0 : Int) (l1 : Int) : SF g yJ13_indexOf (Cond.code yJ13_indexOf cJ13_indexOf 2 (Option.some Jvm.ClassFile.FieldType.int)) (Option.some Jvm.ClassFile.FieldType.int) (d + 2) [vA g l0, vA g l1] (fun h => (h, ts)) (c_J13_indexOf l0 l1) := by
  refine SF.of (lv := [(0, vA g l0), (1, vA g l1)]) (by decide) (wt_A (wt_A wt_0)) rfl (by simp only [la_A, la_I, la_J, la_0]) (fun Γ hg hnm o => ?_)
  subst hg
  have o : Ok Γ "java/util/ArrayList" cJ13_indexOf 2 (Option.some Jvm.ClassFile.FieldType.int) (d + 2) := o
  unfold c_J13_indexOf
  refine s_aload_n o dJ13_indexOf_0 rfl 0 rfl ?_
  refine s_aload_n o dJ13_indexOf_1 rfl 1 rfl ?_
  refine s_iconst o dJ13_indexOf_2 ?_
  refine s_aload_n o dJ13_indexOf_3 rfl 0 rfl ?_
  refine r_getf vI rfl o cf_J13_size (Or.inl (lw_all_tbl q1045)) dJ13_indexOf_4 (fun v1 hv1 => ?_)
  refine s_cvC (d := d + 1) (As := [vA (mg Γ) l1, vI 0, vI v1]) (st := []) (c := 27) o (sc_J13_indexOfRange (mg Γ) d ts l0 l1 0 v1 (r32 rfl) hv1) mw_J13_indexOfRange rfl (Or.inl (lw_all_tbl q1393)) rfl (lw_all_tbl q1395) (lw_all_tbl q1394) wt_0 rfl dJ13_indexOf_7 rfl (rs := fun r => [vI r]) (fun _ => rfl) (fun v2 hv2 => ?_)
  exact s_iret o rfl i_int (hv2 _ rfl) dJ13_indexOf_10 (fun _ hh => hh)
theorem dX16_numberOf_0 : decode cX16_numberOf 0 = .ok (.aload_n 1, 1) := by decide +kernel
theorem dX16_numberOf_1 : decode cX16_numberOf 1 = .ok (.getfield 62, 3) := by decide +kernel
theorem dX16_numberOf_4 : decode cX16_numberOf 4 = .ok (.aload_n 0, 1) := by decide +kernel
theorem dX16_numberOf_5 : decode cX16_numberOf 5 = .ok (.if_acmp .ne 10, 3) := by decide +kernel
theorem dX16_numberOf_8 : decode cX16_numberOf 8 = .ok (.aload_n 1, 1) := by decide +kernel
theorem dX16_numberOf_9 : decode cX16_numberOf 9 = .ok (.getfield 57, 3) := by decide +kernel
theorem dX16_numberOf_12 : decode cX16_numberOf 12 = .ok (.goto 11, 3) := by decide +kernel
theorem dX16_numberOf_15 : decode cX16_numberOf 15 = .ok (.aload_n 0, 1) := by decide +kernel
theorem dX16_numberOf_16 : decode cX16_numberOf 16 = .ok (.getfield 18, 3) := by decide +kernel
theorem dX16_numberOf_19 : decode cX16_numberOf 19 = .ok (.aload_n 1, 1) := by decide +kernel
theorem dX16_numberOf_20 : decode cX16_numberOf 20 = .ok (.invokevirtual 65, 3) := by decide +kernel
theorem dX16_numberOf_23 : decode cX16_numberOf 23 = .ok (.ireturn, 1) := by decide +kernel
theorem mw_X16_numberOf : MW yX16_numberOf (Cond.code yX16_numberOf cX16_numberOf 2 (Option.some Jvm.ClassFile.FieldType.int)) cX16_numberOf 2 (Option.some Jvm.ClassFile.FieldType.int) 1 := ⟨rfl, ⟨(lw_all_tbl q1626), rfl, (lw_all_tbl q193)⟩, rfl, ⟨by decide, by decide⟩, by decide +kernel⟩
noncomputable def c_X16_numberOf (l0 : Int) (l1 : Int) : Mo CH Int :=
  bnd (gf [117] 0 l1) fun v1 =>
  ckr v1 l0 (if ¬ v1 = l0 then
    bnd (gf [116] 4 l0) fun v2 =>
    bnd (isk 127 v2) fun _ =>
    bnd (c_J13_indexOf v2 l1) fun v3 =>
    pr v3
  else
    bnd (gf [117] 1 l1) fun v4 =>
    pr v4)
theorem sc_X16_numberOf (g : gC) (d : Nat) (ts : TS) (l0 : Int) (l1 : Int) : SF g yX16_numberOf (Cond.code yX16_numberOf cX16_numberOf 2 (Option.some Jvm.ClassFile.FieldType.int)) (Option.some Jvm.ClassFile.FieldType.int) (d + 3) [vA g l0, vA g l1] (fun h => (h, ts)) (c_X16_numberOf l0 l1) := by
  refine SF.of (lv := [(0, vA g l0), (1, vA g l1)]) (by decide) (wt_A (wt_A wt_0)) rfl (by simp only [la_A, la_I, la_J, la_0]) (fun Γ hg hnm o => ?_)
  subst hg
  have o : Ok Γ "LazyForge$Function" cX16_numberOf 2 (Option.some Jvm.ClassFile.FieldType.int) (d + 3) := o
  unfold c_X16_numberOf
  refine s_aload_n o dX16_numberOf_0 rfl 1 rfl ?_
  refine r_getf (vA (mg Γ)) rfl o cf_X17_owner (Or.inr (Or.inl ⟨_, q1289⟩)) dX16_numberOf_1 (fun v1 hv1 => ?_)
  refine s_aload_n o dX16_numberOf_4 rfl 0 rfl ?_
  refine s_acmp_ne (tgt := 15) o dX16_numberOf_5 (by decide) ?_ ?_
  · refine s_aload_n o dX16_numberOf_15 rfl 0 rfl ?_
    refine r_getf (vA (mg Γ)) rfl o cf_X16_free (Or.inl (lw_all_tbl q1154)) dX16_numberOf_16 (fun v2 hv2 => ?_)
    refine s_aload_n o dX16_numberOf_19 rfl 1 rfl ?_
    refine s_cvC (d := d + 2) (As := [vA (mg Γ) l1]) (st := []) (c := 27) o (sc_J13_indexOf (mg Γ) d ts v2 l1) mw_J13_indexOf rfl (Or.inl (lw_all_tbl q1627)) rfl (lw_all_tbl q1391) (lw_all_tbl q1390) wt_0 rfl dX16_numberOf_20 rfl (rs := fun r => [vI r]) (fun _ => rfl) (fun v3 hv3 => ?_)
    exact s_iret o rfl i_int (hv3 _ rfl) dX16_numberOf_23 (fun _ hh => hh)
  · refine s_aload_n o dX16_numberOf_8 rfl 1 rfl ?_
    refine r_getf vI rfl o cf_X17_number (Or.inr (Or.inl ⟨_, q1292⟩)) dX16_numberOf_9 (fun v4 hv4 => ?_)
    refine s_goto (tgt := 23) o dX16_numberOf_12 (by decide) ?_
    exact s_iret o rfl i_int hv4 dX16_numberOf_23 (fun _ hh => hh)
theorem dX20_settle_0 : decode cX20_settle 0 = .ok (.aload_n 0, 1) := by decide +kernel
theorem dX20_settle_1 : decode cX20_settle 1 = .ok (.aload_n 0, 1) := by decide +kernel
theorem dX20_settle_2 : decode cX20_settle 2 = .ok (.getfield 13, 3) := by decide +kernel
theorem dX20_settle_5 : decode cX20_settle 5 = .ok (.aload_n 0, 1) := by decide +kernel
theorem dX20_settle_6 : decode cX20_settle 6 = .ok (.getfield 7, 3) := by decide +kernel
theorem dX20_settle_9 : decode cX20_settle 9 = .ok (.invokevirtual 17, 3) := by decide +kernel
theorem dX20_settle_12 : decode cX20_settle 12 = .ok (.putfield 23, 3) := by decide +kernel
theorem dX20_settle_15 : decode cX20_settle 15 = .ok (.return_, 1) := by decide +kernel
theorem mw_X20_settle : MW yX20_settle (Cond.code yX20_settle cX20_settle 1 (Option.none : Option Jvm.ClassFile.FieldType)) cX20_settle 1 (Option.none : Option Jvm.ClassFile.FieldType) 0 := ⟨rfl, ⟨(lw_all_tbl q1622), rfl, (lw_all_tbl q200)⟩, rfl, ⟨by decide, by decide⟩, by decide +kernel⟩
noncomputable def c_X20_settle (l0 : Int) : Mo CH Int :=
  bnd (gf [120] 6 l0) fun v1 =>
  bnd (gf [120] 5 l0) fun v2 =>
  bnd (isk 116 v1) fun _ =>
  bnd (c_X16_numberOf v1 v2) fun v3 =>
  bnd (pf [120] 7 l0 v3) fun _ =>
  pr 0
theorem sc_X20_settle (g : gC) (d : Nat) (ts : TS) (l0 : Int) : SF g yX20_settle (Cond.code yX20_settle cX20_settle 1 (Option.none : Option Jvm.ClassFile.FieldType)) (Option.none : Option Jvm.ClassFile.FieldType) (d + 4) [vA g l0] (fun h => (h, ts)) (c_X20_settle l0) := by
  refine SF.of (lv := [(0, vA g l0)]) (by decide) (wt_A wt_0) rfl (by simp only [la_A, la_I, la_J, la_0]) (fun Γ hg hnm o => ?_)
  subst hg
  have o : Ok Γ "LazyForge$Use" cX20_settle 1 (Option.none : Option Jvm.ClassFile.FieldType) (d + 4) := o
  unfold c_X20_settle
  refine s_aload_n o dX20_settle_0 rfl 0 rfl ?_
  refine s_aload_n o dX20_settle_1 rfl 0 rfl ?_
  refine r_getf (vA (mg Γ)) rfl o cf_X20_in (Or.inl (lw_all_tbl q1445)) dX20_settle_2 (fun v1 hv1 => ?_)
  refine s_aload_n o dX20_settle_5 rfl 0 rfl ?_
  refine r_getf (vA (mg Γ)) rfl o cf_X20_variable (Or.inl (lw_all_tbl q1444)) dX20_settle_6 (fun v2 hv2 => ?_)
  refine s_cvC (d := d + 3) (As := [vA (mg Γ) v2]) (st := [vA (mg Γ) l0]) (c := 16) o (sc_X16_numberOf (mg Γ) d ts v1 v2) mw_X16_numberOf rfl (Or.inl (lw_all_tbl q1623)) rfl (lw_all_tbl q1625) (lw_all_tbl q1624) (wt_A wt_0) rfl dX20_settle_9 rfl (rs := fun r => [vI r, vA (mg Γ) l0]) (fun _ => rfl) (fun v3 hv3 => ?_)
  refine r_putf vI rfl o cf_X20_number0 (Or.inl (lw_all_tbl q1446)) dX20_settle_12 (Or.inl rfl) (hv3 _ rfl) ty_int ?_
  exact s_vret o rfl dX20_settle_15 (fun _ hh => hh)
theorem dX20_init_0 : decode cX20_init 0 = .ok (.aload_n 0, 1) := by decide +kernel
theorem dX20_init_1 : decode cX20_init 1 = .ok (.invokespecial 1, 3) := by decide +kernel
theorem dX20_init_4 : decode cX20_init 4 = .ok (.aload_n 0, 1) := by decide +kernel
theorem dX20_init_5 : decode cX20_init 5 = .ok (.aload_n 1, 1) := by decide +kernel
theorem dX20_init_6 : decode cX20_init 6 = .ok (.putfield 7, 3) := by decide +kernel
theorem dX20_init_9 : decode cX20_init 9 = .ok (.aload_n 0, 1) := by decide +kernel
theorem dX20_init_10 : decode cX20_init 10 = .ok (.aload_n 2, 1) := by decide +kernel
theorem dX20_init_11 : decode cX20_init 11 = .ok (.putfield 13, 3) := by decide +kernel
theorem dX20_init_14 : decode cX20_init 14 = .ok (.return_, 1) := by decide +kernel
theorem mw_X20_init : MW yX20_init (Cond.code yX20_init cX20_init 3 (Option.none : Option Jvm.ClassFile.FieldType)) cX20_init 3 (Option.none : Option Jvm.ClassFile.FieldType) 2 := ⟨rfl, ⟨(lw_all_tbl q1442), rfl, (lw_all_tbl q200)⟩, rfl, ⟨by decide, by decide⟩, by decide +kernel⟩
noncomputable def c_X20_init (l0 : Int) (l1 : Int) (l2 : Int) : Mo CH Int :=
  bnd (c_X4_init l0) fun _ =>
  bnd (pf [120] 5 l0 l1) fun _ =>
  bnd (pf [120] 6 l0 l2) fun _ =>
  pr 0
theorem sc_X20_init (g : gC) (d : Nat) (ts : TS) (l0 : Int) (l1 : Int) (l2 : Int) (hl0 : 0 < l0) : SF g yX20_init (Cond.code yX20_init cX20_init 3 (Option.none : Option Jvm.ClassFile.FieldType)) (Option.none : Option Jvm.ClassFile.FieldType) (d + 2) [vA g l0, vA g l1, vA g l2] (fun h => (h, ts)) (c_X20_init l0 l1 l2) := by
  refine SF.of (lv := [(0, vA g l0), (1, vA g l1), (2, vA g l2)]) (by decide) (wt_A (wt_A (wt_A wt_0))) rfl (by simp only [la_A, la_I, la_J, la_0]) (fun Γ hg hnm o => ?_)
  subst hg
  have o : Ok Γ "LazyForge$Use" cX20_init 3 (Option.none : Option Jvm.ClassFile.FieldType) (d + 2) := o
  have hnm : (xMe (mx Γ)).name = "<init>" := hnm
  unfold c_X20_init
  refine s_aload_n o dX20_init_0 rfl 0 rfl ?_
  refine s_ci (d := d + 1) (As := []) (st := []) o (sc_X4_init (mg Γ) d ts l0 hl0) mw_X4_init rfl (Or.inr ⟨_, q1443⟩) (lw_all_tbl q252) rfl hl0 wt_0 rfl dX20_init_1 rfl (fun _ => ?_)
  refine s_aload_n o dX20_init_4 rfl 0 rfl ?_
  refine s_aload_n o dX20_init_5 rfl 1 rfl ?_
  refine r_putf (vA (mg Γ)) rfl o cf_X20_variable (Or.inl (lw_all_tbl q1444)) dX20_init_6 (Or.inr ⟨hnm, rfl, (lw_all_tbl q1444)⟩) trivial (ty_object _) ?_
  refine s_aload_n o dX20_init_9 rfl 0 rfl ?_
  refine s_aload_n o dX20_init_10 rfl 2 rfl ?_
  refine r_putf (vA (mg Γ)) rfl o cf_X20_in (Or.inl (lw_all_tbl q1445)) dX20_init_11 (Or.inr ⟨hnm, rfl, (lw_all_tbl q1445)⟩) trivial (ty_object _) ?_
  exact s_vret o rfl dX20_init_14 (fun _ hh => hh)
theorem dX2_write_0 : decode cX2_write 0 = .ok (.aload_n 0, 1) := by decide +kernel
theorem dX2_write_1 : decode cX2_write 1 = .ok (.iconst 0, 1) := by decide +kernel
theorem dX2_write_2 : decode cX2_write 2 = .ok (.putfield 15, 3) := by decide +kernel
theorem dX2_write_5 : decode cX2_write 5 = .ok (.aload_n 0, 1) := by decide +kernel
theorem dX2_write_6 : decode cX2_write 6 = .ok (.aload_n 1, 1) := by decide +kernel
theorem dX2_write_7 : decode cX2_write 7 = .ok (.putfield 35, 3) := by decide +kernel
theorem dX2_write_10 : decode cX2_write 10 = .ok (.aload_n 1, 1) := by decide +kernel
theorem dX2_write_11 : decode cX2_write 11 = .ok (.getfield 72, 3) := by decide +kernel
theorem dX2_write_14 : decode cX2_write 14 = .ok (.iconst 2, 1) := by decide +kernel
theorem dX2_write_15 : decode cX2_write 15 = .ok (.if_icmp .le 63, 3) := by decide +kernel
theorem dX2_write_18 : decode cX2_write 18 = .ok (.aload_n 0, 1) := by decide +kernel
theorem dX2_write_19 : decode cX2_write 19 = .ok (.ldc 75, 2) := by decide +kernel
theorem dX2_write_21 : decode cX2_write 21 = .ok (.invokevirtual 68, 3) := by decide +kernel
theorem dX2_write_24 : decode cX2_write 24 = .ok (.iconst 2, 1) := by decide +kernel
theorem dX2_write_25 : decode cX2_write 25 = .ok (.istore_n 2, 1) := by decide +kernel
theorem dX2_write_26 : decode cX2_write 26 = .ok (.iload_n 2, 1) := by decide +kernel
theorem dX2_write_27 : decode cX2_write 27 = .ok (.aload_n 1, 1) := by decide +kernel
theorem dX2_write_28 : decode cX2_write 28 = .ok (.getfield 72, 3) := by decide +kernel
theorem dX2_write_31 : decode cX2_write 31 = .ok (.if_icmp .ge 41, 3) := by decide +kernel
theorem dX2_write_34 : decode cX2_write 34 = .ok (.iload_n 2, 1) := by decide +kernel
theorem dX2_write_35 : decode cX2_write 35 = .ok (.iconst 2, 1) := by decide +kernel
theorem dX2_write_36 : decode cX2_write 36 = .ok (.if_icmp .le 9, 3) := by decide +kernel
theorem dX2_write_39 : decode cX2_write 39 = .ok (.aload_n 0, 1) := by decide +kernel
theorem dX2_write_40 : decode cX2_write 40 = .ok (.ldc 77, 2) := by decide +kernel
theorem dX2_write_42 : decode cX2_write 42 = .ok (.invokevirtual 68, 3) := by decide +kernel
theorem dX2_write_45 : decode cX2_write 45 = .ok (.aload_n 0, 1) := by decide +kernel
theorem dX2_write_46 : decode cX2_write 46 = .ok (.iload_n 2, 1) := by decide +kernel
theorem dX2_write_47 : decode cX2_write 47 = .ok (.invokevirtual 57, 3) := by decide +kernel
theorem dX2_write_50 : decode cX2_write 50 = .ok (.aload_n 0, 1) := by decide +kernel
theorem dX2_write_51 : decode cX2_write 51 = .ok (.bipush 32, 2) := by decide +kernel
theorem dX2_write_53 : decode cX2_write 53 = .ok (.invokevirtual 29, 3) := by decide +kernel
theorem dX2_write_56 : decode cX2_write 56 = .ok (.aload_n 0, 1) := by decide +kernel
theorem dX2_write_57 : decode cX2_write 57 = .ok (.aload_n 1, 1) := by decide +kernel
theorem dX2_write_58 : decode cX2_write 58 = .ok (.getfield 79, 3) := by decide +kernel
theorem dX2_write_61 : decode cX2_write 61 = .ok (.iload_n 2, 1) := by decide +kernel
theorem dX2_write_62 : decode cX2_write 62 = .ok (.iaload, 1) := by decide +kernel
theorem dX2_write_63 : decode cX2_write 63 = .ok (.invokevirtual 53, 3) := by decide +kernel
theorem dX2_write_66 : decode cX2_write 66 = .ok (.iinc 2 1, 3) := by decide +kernel
theorem dX2_write_69 : decode cX2_write 69 = .ok (.goto (-43), 3) := by decide +kernel
theorem dX2_write_72 : decode cX2_write 72 = .ok (.aload_n 0, 1) := by decide +kernel
theorem dX2_write_73 : decode cX2_write 73 = .ok (.ldc 83, 2) := by decide +kernel
theorem dX2_write_75 : decode cX2_write 75 = .ok (.invokevirtual 68, 3) := by decide +kernel
theorem dX2_write_78 : decode cX2_write 78 = .ok (.iconst 0, 1) := by decide +kernel
theorem dX2_write_79 : decode cX2_write 79 = .ok (.istore_n 2, 1) := by decide +kernel
theorem dX2_write_80 : decode cX2_write 80 = .ok (.iload_n 2, 1) := by decide +kernel
theorem dX2_write_81 : decode cX2_write 81 = .ok (.aload_n 1, 1) := by decide +kernel
theorem dX2_write_82 : decode cX2_write 82 = .ok (.getfield 85, 3) := by decide +kernel
theorem dX2_write_85 : decode cX2_write 85 = .ok (.invokevirtual 89, 3) := by decide +kernel
theorem dX2_write_88 : decode cX2_write 88 = .ok (.if_icmp .ge 76, 3) := by decide +kernel
theorem dX2_write_91 : decode cX2_write 91 = .ok (.aload_n 1, 1) := by decide +kernel
theorem dX2_write_92 : decode cX2_write 92 = .ok (.getfield 85, 3) := by decide +kernel
theorem dX2_write_95 : decode cX2_write 95 = .ok (.iload_n 2, 1) := by decide +kernel
theorem dX2_write_96 : decode cX2_write 96 = .ok (.invokevirtual 93, 3) := by decide +kernel
theorem dX2_write_99 : decode cX2_write 99 = .ok (.checkcast 61, 3) := by decide +kernel
theorem dX2_write_102 : decode cX2_write 102 = .ok (.astore_n 3, 1) := by decide +kernel
theorem dX2_write_103 : decode cX2_write 103 = .ok (.aload_n 0, 1) := by decide +kernel
theorem dX2_write_104 : decode cX2_write 104 = .ok (.aload_n 3, 1) := by decide +kernel
theorem dX2_write_105 : decode cX2_write 105 = .ok (.invokevirtual 97, 3) := by decide +kernel
theorem dX2_write_108 : decode cX2_write 108 = .ok (.iconst 0, 1) := by decide +kernel
theorem dX2_write_109 : decode cX2_write 109 = .ok (.istore 4, 2) := by decide +kernel
theorem dX2_write_111 : decode cX2_write 111 = .ok (.iload 4, 2) := by decide +kernel
theorem dX2_write_113 : decode cX2_write 113 = .ok (.aload_n 3, 1) := by decide +kernel
theorem dX2_write_114 : decode cX2_write 114 = .ok (.invokevirtual 101, 3) := by decide +kernel
theorem dX2_write_117 : decode cX2_write 117 = .ok (.if_icmp .ge 21, 3) := by decide +kernel
theorem dX2_write_120 : decode cX2_write 120 = .ok (.aload_n 0, 1) := by decide +kernel
theorem dX2_write_121 : decode cX2_write 121 = .ok (.bipush 32, 2) := by decide +kernel
theorem dX2_write_123 : decode cX2_write 123 = .ok (.invokevirtual 29, 3) := by decide +kernel
theorem dX2_write_126 : decode cX2_write 126 = .ok (.aload_n 0, 1) := by decide +kernel
theorem dX2_write_127 : decode cX2_write 127 = .ok (.iload 4, 2) := by decide +kernel
theorem dX2_write_129 : decode cX2_write 129 = .ok (.invokevirtual 104, 3) := by decide +kernel
theorem dX2_write_132 : decode cX2_write 132 = .ok (.iinc 4 1, 3) := by decide +kernel
theorem dX2_write_135 : decode cX2_write 135 = .ok (.goto (-24), 3) := by decide +kernel
theorem dX2_write_138 : decode cX2_write 138 = .ok (.aload_n 0, 1) := by decide +kernel
theorem dX2_write_139 : decode cX2_write 139 = .ok (.ldc 107, 2) := by decide +kernel
theorem dX2_write_141 : decode cX2_write 141 = .ok (.invokevirtual 68, 3) := by decide +kernel
theorem dX2_write_144 : decode cX2_write 144 = .ok (.aload_n 3, 1) := by decide +kernel
theorem dX2_write_145 : decode cX2_write 145 = .ok (.getfield 109, 3) := by decide +kernel
theorem dX2_write_148 : decode cX2_write 148 = .ok (.aload_n 0, 1) := by decide +kernel
theorem dX2_write_149 : decode cX2_write 149 = .ok (.invokevirtual 113, 3) := by decide +kernel
theorem dX2_write_152 : decode cX2_write 152 = .ok (.aload_n 0, 1) := by decide +kernel
theorem dX2_write_153 : decode cX2_write 153 = .ok (.ldc 83, 2) := by decide +kernel
theorem dX2_write_155 : decode cX2_write 155 = .ok (.invokevirtual 68, 3) := by decide +kernel
theorem dX2_write_158 : decode cX2_write 158 = .ok (.iinc 2 1, 3) := by decide +kernel
theorem dX2_write_161 : decode cX2_write 161 = .ok (.goto (-81), 3) := by decide +kernel
theorem dX2_write_164 : decode cX2_write 164 = .ok (.return_, 1) := by decide +kernel
theorem mw_X2_write : MW yX2_write (Cond.code yX2_write cX2_write 5 (Option.none : Option Jvm.ClassFile.FieldType)) cX2_write 5 (Option.none : Option Jvm.ClassFile.FieldType) 1 := ⟨rfl, ⟨(lw_all_tbl q1931), rfl, (lw_all_tbl q164)⟩, rfl, ⟨by decide, by decide⟩, by decide +kernel⟩
abbrev okc_X2_write_111 (x : Int × Int × Int × Int × Int) : Prop := R32 x.2.2.1 ∧ R32 x.2.2.2.2
abbrev lvc_X2_write_111 (Γ : Gm) (x : Int × Int × Int × Int × Int) : List (Nat × Value) := [(0, vA (mg Γ) x.1), (1, vA (mg Γ) x.2.1), (2, vI x.2.2.1), (3, vA (mg Γ) x.2.2.2.1), (4, vI x.2.2.2.2)]
noncomputable def c_X2_write_111b {A : Type} (k_138 : Int → Int → Int → Int → Mo CH A) (l0 : Int) (l1 : Int) (l2 : Int) (l3 : Int) (l4 : Int) : Mo CH ((Int × Int × Int × Int × Int) ⊕ A) :=
  bnd (isk 116 l3) fun _ =>
  bnd (c_X16_parameters l3) fun v1 =>
  if v1 ≤ l4 then
    lo (k_138 l0 l1 l2 l3)
  else
    bnd (isk 102 l0) fun _ =>
    bnd (c_X2_sign l0 32) fun _ =>
    bnd (isk 102 l0) fun _ =>
    bnd (c_X2_variable l0 l4) fun _ =>
    pr (.inl (l0, l1, l2, l3, (w32 (l4 + 1))))
theorem sc_X2_write_111b {Γ : Gm} {ts : TS} {d : Nat} (o : Ok Γ "LazyForge$Writer" cX2_write 5 (Option.none : Option Jvm.ClassFile.FieldType) (d + 207)) {A : Type} {K : A → CH → Prop} (k_138 : Int → Int → Int → Int → Mo CH A) (hk_138 : ∀ (l0 : Int) (l1 : Int) (l2 : Int) (l3 : Int), R32 l2 → Sx Γ (fun h => (h, ts)) K 138 [(0, vA (mg Γ) l0), (1, vA (mg Γ) l1), (2, vI l2), (3, vA (mg Γ) l3)] [] (k_138 l0 l1 l2 l3)) (l0 : Int) (l1 : Int) (l2 : Int) (l3 : Int) (l4 : Int) (hl2 : R32 l2) (hl4 : R32 l4) : Sx Γ (fun h => (h, ts)) (KL Γ (fun h => (h, ts)) okc_X2_write_111 K 111 (lvc_X2_write_111 Γ) []) 111 [(0, vA (mg Γ) l0), (1, vA (mg Γ) l1), (2, vI l2), (3, vA (mg Γ) l3), (4, vI l4)] [] (c_X2_write_111b k_138 l0 l1 l2 l3 l4) := by
  unfold c_X2_write_111b
  refine s_iload o dX2_write_111 4 rfl ?_
  refine s_aload_n o dX2_write_113 rfl 3 rfl ?_
  refine s_cvC (d := d + 206) (As := []) (st := [vI l4]) (c := 16) o (sc_X16_parameters (mg Γ) (d + 205) ts l3) mw_X16_parameters rfl (Or.inl (lw_all_tbl q1966)) rfl (lw_all_tbl q1606) (lw_all_tbl q1605) (wt_I wt_0) rfl dX2_write_114 rfl (rs := fun r => [vI r, vI l4]) (fun _ => rfl) (fun v1 hv1 => ?_)
  refine s_icmp_ge (tgt := 138) o dX2_write_117 (by decide) hl4 (hv1 _ rfl) ?_ ?_
  · refine r_to [(0, vA (mg Γ) l0), (1, vA (mg Γ) l1), (2, vI l2), (3, vA (mg Γ) l3)] [0, 1, 2, 3] rfl ?_
    exact s_lo (hk_138 l0 l1 l2 l3 hl2)
  · refine s_aload_n o dX2_write_120 rfl 0 rfl ?_
    refine s_bipush o dX2_write_121 rfl ?_
    refine s_cvC (d := d + 206) (As := [vI 32]) (st := []) (c := 2) o (sc_X2_sign (mg Γ) (d + 206) ts l0 32 (rCl rfl)) mw_X2_sign rfl (Or.inl (lw_all_tbl q1939)) rfl (lw_all_tbl q1941) (lw_all_tbl q1940) wt_0 rfl dX2_write_123 rfl (rs := fun _ => []) (fun _ => rfl) (fun _ _ => ?_)
    refine s_aload_n o dX2_write_126 rfl 0 rfl ?_
    refine s_iload o dX2_write_127 4 rfl ?_
    refine s_cvC (d := d + 206) (As := [vI l4]) (st := []) (c := 2) o (sc_X2_variable (mg Γ) (d + 204) ts l0 l4 hl4) mw_X2_variable rfl (Or.inl (lw_all_tbl q1967)) rfl (lw_all_tbl q1969) (lw_all_tbl q1968) wt_0 rfl dX2_write_129 rfl (rs := fun _ => []) (fun _ => rfl) (fun _ _ => ?_)
    refine r_iinc (j := 4) o dX2_write_132 rfl rfl [(0, vA (mg Γ) l0), (1, vA (mg Γ) l1), (2, vI l2), (3, vA (mg Γ) l3)] [0, 1, 2, 3] rfl ⟨(Nat.ne_of_beq_eq_false rfl), (fun _ => (vA_cat (mg Γ) l0)), ⟨(Nat.ne_of_beq_eq_false rfl), (fun _ => (vA_cat (mg Γ) l1)), ⟨(Nat.ne_of_beq_eq_false rfl), (fun _ => rfl), ⟨(Nat.ne_of_beq_eq_false rfl), (fun _ => (vA_cat (mg Γ) l3)), trivial⟩⟩⟩⟩ ?_
    refine s_goto (tgt := 111) o dX2_write_135 (by decide) ?_
    refine r_to [(0, vA (mg Γ) l0), (1, vA (mg Γ) l1), (2, vI l2), (3, vA (mg Γ) l3), (4, vI (w32 (l4 + 1)))] [1, 2, 3, 4, 0] rfl ?_
    exact s_back (⟨hl2, (w32_R _)⟩) rfl
noncomputable def c_X2_write_111 {A : Type} (k_138 : Int → Int → Int → Int → Mo CH A) (l0 : Int) (l1 : Int) (l2 : Int) (l3 : Int) (l4 : Int) : Mo CH A := Loop (fun x => c_X2_write_111b k_138 x.1 x.2.1 x.2.2.1 x.2.2.2.1 x.2.2.2.2) (l0, l1, l2, l3, l4)
theorem sc_X2_write_111 {Γ : Gm} {ts : TS} {d : Nat} (o : Ok Γ "LazyForge$Writer" cX2_write 5 (Option.none : Option Jvm.ClassFile.FieldType) (d + 207)) {A : Type} {K : A → CH → Prop} (k_138 : Int → Int → Int → Int → Mo CH A) (hk_138 : ∀ (l0 : Int) (l1 : Int) (l2 : Int) (l3 : Int), R32 l2 → Sx Γ (fun h => (h, ts)) K 138 [(0, vA (mg Γ) l0), (1, vA (mg Γ) l1), (2, vI l2), (3, vA (mg Γ) l3)] [] (k_138 l0 l1 l2 l3)) (l0 : Int) (l1 : Int) (l2 : Int) (l3 : Int) (l4 : Int) (hl2 : R32 l2) (hl4 : R32 l4) : Sx Γ (fun h => (h, ts)) K 111 [(0, vA (mg Γ) l0), (1, vA (mg Γ) l1), (2, vI l2), (3, vA (mg Γ) l3), (4, vI l4)] [] (c_X2_write_111 k_138 l0 l1 l2 l3 l4) :=
  s_loop okc_X2_write_111 (lvc_X2_write_111 Γ) (fun x hx => sc_X2_write_111b o k_138 hk_138 x.1 x.2.1 x.2.2.1 x.2.2.2.1 x.2.2.2.2 hx.1 hx.2) (x := (l0, l1, l2, l3, l4)) ⟨hl2, hl4⟩
abbrev okc_X2_write_26 (x : Int × Int × Int) : Prop := R32 x.2.2
abbrev lvc_X2_write_26 (Γ : Gm) (x : Int × Int × Int) : List (Nat × Value) := [(0, vA (mg Γ) x.1), (1, vA (mg Γ) x.2.1), (2, vI x.2.2)]
noncomputable def c_X2_write_45 {A : Type} (k_72 : Int → Int → Mo CH A) (l0 : Int) (l1 : Int) (l2 : Int) : Mo CH ((Int × Int × Int) ⊕ A) :=
  bnd (isk 102 l0) fun _ =>
  bnd (c_X2_constructor l0 l2) fun _ =>
  bnd (isk 102 l0) fun _ =>
  bnd (c_X2_sign l0 32) fun _ =>
  bnd (gf [115] 6 l1) fun v1 =>
  bnd (ald 0 v1 l2) fun v2 =>
  bnd (isk 102 l0) fun _ =>
  bnd (c_X2_number l0 v2) fun _ =>
  pr (.inl (l0, l1, (w32 (l2 + 1))))
theorem sc_X2_write_45 {Γ : Gm} {ts : TS} {d : Nat} (o : Ok Γ "LazyForge$Writer" cX2_write 5 (Option.none : Option Jvm.ClassFile.FieldType) (d + 207)) {A : Type} {K : A → CH → Prop}  (k_72 : Int → Int → Mo CH A) (hk_72 : ∀ (l0 : Int) (l1 : Int), Sx Γ (fun h => (h, ts)) K 72 [(0, vA (mg Γ) l0), (1, vA (mg Γ) l1)] [] (k_72 l0 l1)) (l0 : Int) (l1 : Int) (l2 : Int) (hl2 : R32 l2) : Sx Γ (fun h => (h, ts)) (KL Γ (fun h => (h, ts)) okc_X2_write_26 K 26 (lvc_X2_write_26 Γ) []) 45 [(0, vA (mg Γ) l0), (1, vA (mg Γ) l1), (2, vI l2)] [] (c_X2_write_45 k_72 l0 l1 l2) := by
  unfold c_X2_write_45
  refine s_aload_n o dX2_write_45 rfl 0 rfl ?_
  refine s_iload_n o dX2_write_46 rfl 2 rfl ?_
  refine s_cvC (d := d + 206) (As := [vI l2]) (st := []) (c := 2) o (sc_X2_constructor (mg Γ) (d + 204) ts l0 l2 hl2) mw_X2_constructor rfl (Or.inl (lw_all_tbl q1944)) rfl (lw_all_tbl q1946) (lw_all_tbl q1945) wt_0 rfl dX2_write_47 rfl (rs := fun _ => []) (fun _ => rfl) (fun _ _ => ?_)
  refine s_aload_n o dX2_write_50 rfl 0 rfl ?_
  refine s_bipush o dX2_write_51 rfl ?_
  refine s_cvC (d := d + 206) (As := [vI 32]) (st := []) (c := 2) o (sc_X2_sign (mg Γ) (d + 206) ts l0 32 (rCl rfl)) mw_X2_sign rfl (Or.inl (lw_all_tbl q1939)) rfl (lw_all_tbl q1941) (lw_all_tbl q1940) wt_0 rfl dX2_write_53 rfl (rs := fun _ => []) (fun _ => rfl) (fun _ _ => ?_)
  refine s_aload_n o dX2_write_56 rfl 0 rfl ?_
  refine s_aload_n o dX2_write_57 rfl 1 rfl ?_
  refine r_getf (vA (mg Γ)) rfl o cf_X15_fields (Or.inr (Or.inl ⟨_, q1077⟩)) dX2_write_58 (fun v1 hv1 => ?_)
  refine s_iload_n o dX2_write_61 rfl 2 rfl ?_
  refine r_iald o hl2 dX2_write_62 (fun v2 hv2 => ?_)
  refine s_cvC (d := d + 206) (As := [vI v2]) (st := []) (c := 2) o (sc_X2_number (mg Γ) (d + 205) ts l0 v2 hv2) mw_X2_number rfl (Or.inl (lw_all_tbl q1953)) rfl (lw_all_tbl q1955) (lw_all_tbl q1954) wt_0 rfl dX2_write_63 rfl (rs := fun _ => []) (fun _ => rfl) (fun _ _ => ?_)
  refine r_iinc (j := 2) o dX2_write_66 rfl rfl [(0, vA (mg Γ) l0), (1, vA (mg Γ) l1)] [0, 1] rfl ⟨(Nat.ne_of_beq_eq_false rfl), (fun _ => (vA_cat (mg Γ) l0)), ⟨(Nat.ne_of_beq_eq_false rfl), (fun _ => (vA_cat (mg Γ) l1)), trivial⟩⟩ ?_
  refine s_goto (tgt := 26) o dX2_write_69 (by decide) ?_
  refine r_to [(0, vA (mg Γ) l0), (1, vA (mg Γ) l1), (2, vI (w32 (l2 + 1)))] [1, 2, 0] rfl ?_
  exact s_back (w32_R _) rfl
noncomputable def c_X2_write_26b {A : Type} (k_72 : Int → Int → Mo CH A) (l0 : Int) (l1 : Int) (l2 : Int) : Mo CH ((Int × Int × Int) ⊕ A) :=
  bnd (gf [115] 7 l1) fun v1 =>
  if v1 ≤ l2 then
    lo (k_72 l0 l1)
  else
    if l2 ≤ 2 then
      c_X2_write_45 k_72 l0 l1 l2
    else
      bnd (isk 102 l0) fun _ =>
      bnd (c_X2_text l0 (-33)) fun _ =>
      c_X2_write_45 k_72 l0 l1 l2
theorem sc_X2_write_26b {Γ : Gm} {ts : TS} {d : Nat} (o : Ok Γ "LazyForge$Writer" cX2_write 5 (Option.none : Option Jvm.ClassFile.FieldType) (d + 207)) {A : Type} {K : A → CH → Prop} (k_72 : Int → Int → Mo CH A) (hk_72 : ∀ (l0 : Int) (l1 : Int), Sx Γ (fun h => (h, ts)) K 72 [(0, vA (mg Γ) l0), (1, vA (mg Γ) l1)] [] (k_72 l0 l1)) (l0 : Int) (l1 : Int) (l2 : Int) (hl2 : R32 l2) : Sx Γ (fun h => (h, ts)) (KL Γ (fun h => (h, ts)) okc_X2_write_26 K 26 (lvc_X2_write_26 Γ) []) 26 [(0, vA (mg Γ) l0), (1, vA (mg Γ) l1), (2, vI l2)] [] (c_X2_write_26b k_72 l0 l1 l2) := by
  unfold c_X2_write_26b
  refine s_iload_n o dX2_write_26 rfl 2 rfl ?_
  refine s_aload_n o dX2_write_27 rfl 1 rfl ?_
  refine r_getf vI rfl o cf_X15_constructorCount (Or.inr (Or.inl ⟨_, q1080⟩)) dX2_write_28 (fun v1 hv1 => ?_)
  refine s_icmp_ge (tgt := 72) o dX2_write_31 (by decide) hl2 hv1 ?_ ?_
  · refine r_to [(0, vA (mg Γ) l0), (1, vA (mg Γ) l1)] [0, 1] rfl ?_
    exact s_lo (hk_72 l0 l1)
  · refine s_iload_n o dX2_write_34 rfl 2 rfl ?_
    refine s_iconst o dX2_write_35 ?_
    refine s_icmp_le (tgt := 45) o dX2_write_36 (by decide) hl2 (r32 rfl) ?_ ?_
    · exact sc_X2_write_45 o k_72 hk_72 l0 l1 l2 hl2
    · refine s_aload_n o dX2_write_39 rfl 0 rfl ?_
      refine s_ldcS (tx := " | ") (k := 33) o (by decide +kernel) rfl (by decide) dX2_write_40 ?_
      refine s_cvC (d := d + 206) (As := [vA (mg Γ) (-33)]) (st := []) (c := 2) o (sc_X2_text (mg Γ) (d + 202) ts l0 (-33)) mw_X2_text rfl (Or.inl (lw_all_tbl q1933)) rfl (lw_all_tbl q1935) (lw_all_tbl q1934) wt_0 rfl dX2_write_42 rfl (rs := fun _ => []) (fun _ => rfl) (fun _ _ => ?_)
      exact sc_X2_write_45 o k_72 hk_72 l0 l1 l2 hl2
noncomputable def c_X2_write_26 {A : Type} (k_72 : Int → Int → Mo CH A) (l0 : Int) (l1 : Int) (l2 : Int) : Mo CH A := Loop (fun x => c_X2_write_26b k_72 x.1 x.2.1 x.2.2) (l0, l1, l2)
theorem sc_X2_write_26 {Γ : Gm} {ts : TS} {d : Nat} (o : Ok Γ "LazyForge$Writer" cX2_write 5 (Option.none : Option Jvm.ClassFile.FieldType) (d + 207)) {A : Type} {K : A → CH → Prop} (k_72 : Int → Int → Mo CH A) (hk_72 : ∀ (l0 : Int) (l1 : Int), Sx Γ (fun h => (h, ts)) K 72 [(0, vA (mg Γ) l0), (1, vA (mg Γ) l1)] [] (k_72 l0 l1)) (l0 : Int) (l1 : Int) (l2 : Int) (hl2 : R32 l2) : Sx Γ (fun h => (h, ts)) K 26 [(0, vA (mg Γ) l0), (1, vA (mg Γ) l1), (2, vI l2)] [] (c_X2_write_26 k_72 l0 l1 l2) :=
  s_loop okc_X2_write_26 (lvc_X2_write_26 Γ) (fun x hx => sc_X2_write_26b o k_72 hk_72 x.1 x.2.1 x.2.2 hx) (x := (l0, l1, l2)) hl2
abbrev okc_X2_write_80 (x : Int × Int × Int) : Prop := R32 x.2.2
abbrev lvc_X2_write_80 (Γ : Gm) (x : Int × Int × Int) : List (Nat × Value) := [(0, vA (mg Γ) x.1), (1, vA (mg Γ) x.2.1), (2, vI x.2.2)]
noncomputable def c_X2_write_80b {A : Type} (k_164 : Mo CH A) (l0 : Int) (l1 : Int) (l2 : Int) : Mo CH ((Int × Int × Int) ⊕ A) :=
  bnd (gf [115] 0 l1) fun v1 =>
  bnd (isk 127 v1) fun _ =>
  bnd (c_J13_size v1) fun v2 =>
  if v2 ≤ l2 then
    lo k_164
  else
    bnd (gf [115] 0 l1) fun v3 =>
    bnd (isk 127 v3) fun _ =>
    bnd (c_J13_get v3 l2) fun v4 =>
    bnd (ckk [116] v4) fun _ =>
    bnd (isk 102 l0) fun _ =>
    bnd (c_X2_function l0 v4) fun _ =>
    c_X2_write_111
      (fun v5 v6 v7 v8 => bnd (isk 102 v5) fun _ =>
    bnd (c_X2_text v5 (-35)) fun _ =>
    bnd (gf [116] 6 v8) fun v9 =>
    bnd (v_X4_write v9 v5) fun _ =>
    bnd (isk 102 v5) fun _ =>
    bnd (c_X2_text v5 (-34)) fun _ =>
    pr (.inl (v5, v6, (w32 (v7 + 1))))) l0 l1 l2 v4 0
theorem sc_X2_write_80b {Γ : Gm} {ts : TS} {d : Nat} (o : Ok Γ "LazyForge$Writer" cX2_write 5 (Option.none : Option Jvm.ClassFile.FieldType) (d + 207)) {A : Type} {K : A → CH → Prop} (k_164 : Mo CH A) (hk_164 : Sx Γ (fun h => (h, ts)) K 164 [] [] (k_164)) (l0 : Int) (l1 : Int) (l2 : Int) (hl2 : R32 l2) : Sx Γ (fun h => (h, ts)) (KL Γ (fun h => (h, ts)) okc_X2_write_80 K 80 (lvc_X2_write_80 Γ) []) 80 [(0, vA (mg Γ) l0), (1, vA (mg Γ) l1), (2, vI l2)] [] (c_X2_write_80b k_164 l0 l1 l2) := by
  unfold c_X2_write_80b
  refine s_iload_n o dX2_write_80 rfl 2 rfl ?_
  refine s_aload_n o dX2_write_81 rfl 1 rfl ?_
  refine r_getf (vA (mg Γ)) rfl o cf_X15_functions (Or.inr (Or.inl ⟨_, q1059⟩)) dX2_write_82 (fun v1 hv1 => ?_)
  refine s_cvC (d := d + 206) (As := []) (st := [vI l2]) (c := 27) o (sc_J13_size (mg Γ) (d + 206) ts v1) mw_J13_size rfl (Or.inl (lw_all_tbl q1958)) rfl (lw_all_tbl q1359) (lw_all_tbl q1358) (wt_I wt_0) rfl dX2_write_85 rfl (rs := fun r => [vI r, vI l2]) (fun _ => rfl) (fun v2 hv2 => ?_)
  refine s_icmp_ge (tgt := 164) o dX2_write_88 (by decide) hl2 (hv2 _ rfl) ?_ ?_
  · refine r_to [] [] rfl ?_
    exact s_lo hk_164
  · refine s_aload_n o dX2_write_91 rfl 1 rfl ?_
    refine r_getf (vA (mg Γ)) rfl o cf_X15_functions (Or.inr (Or.inl ⟨_, q1059⟩)) dX2_write_92 (fun v3 hv3 => ?_)
    refine s_iload_n o dX2_write_95 rfl 2 rfl ?_
    refine s_cvC (d := d + 206) (As := [vI l2]) (st := []) (c := 27) o (sc_J13_get (mg Γ) (d + 204) ts v3 l2 hl2) mw_J13_get rfl (Or.inl (lw_all_tbl q1959)) rfl (lw_all_tbl q1268) (lw_all_tbl q1267) wt_0 rfl dX2_write_96 rfl (rs := fun r => [vA (mg Γ) r]) (fun _ => rfl) (fun v4 hv4 => ?_)
    refine s_cast o (cs_X16 o) (lw_all_tbl q1960) dX2_write_99 ?_
    refine r_astore_n o dX2_write_102 rfl rfl ⟨(Nat.ne_of_beq_eq_false rfl), (fun _ => (vA_cat (mg Γ) l0)), ⟨(Nat.ne_of_beq_eq_false rfl), (fun _ => (vA_cat (mg Γ) l1)), ⟨(Nat.ne_of_beq_eq_false rfl), (fun _ => rfl), trivial⟩⟩⟩ ?_
    refine s_aload_n o dX2_write_103 rfl 1 rfl ?_
    refine s_aload_n o dX2_write_104 rfl 0 rfl ?_
    refine s_cvC (d := d + 206) (As := [vA (mg Γ) v4]) (st := []) (c := 2) o (sc_X2_function (mg Γ) (d + 201) ts l0 v4) mw_X2_function rfl (Or.inl (lw_all_tbl q1961)) rfl (lw_all_tbl q1963) (lw_all_tbl q1962) wt_0 rfl dX2_write_105 rfl (rs := fun _ => []) (fun _ => rfl) (fun _ _ => ?_)
    refine s_iconst o dX2_write_108 ?_
    refine r_istore o dX2_write_109 rfl ⟨(Nat.ne_of_beq_eq_false rfl), (fun _ => (vA_cat (mg Γ) v4)), ⟨(Nat.ne_of_beq_eq_false rfl), (fun _ => (vA_cat (mg Γ) l0)), ⟨(Nat.ne_of_beq_eq_false rfl), (fun _ => (vA_cat (mg Γ) l1)), ⟨(Nat.ne_of_beq_eq_false rfl), (fun _ => rfl), trivial⟩⟩⟩⟩ ?_
    refine r_to [(0, vA (mg Γ) l0), (1, vA (mg Γ) l1), (2, vI l2), (3, vA (mg Γ) v4), (4, vI 0)] [2, 3, 4, 1, 0] rfl ?_
    refine sc_X2_write_111 o _ ?_ l0 l1 l2 v4 0 hl2 (r32 rfl)
    · intro v5 v6 v7 v8 hv7
      refine s_aload_n o dX2_write_138 rfl 0 rfl ?_
      refine s_ldcS (tx := " = ") (k := 35) o (by decide +kernel) rfl (by decide) dX2_write_139 ?_
      refine s_cvC (d := d + 206) (As := [vA (mg Γ) (-35)]) (st := []) (c := 2) o (sc_X2_text (mg Γ) (d + 202) ts v5 (-35)) mw_X2_text rfl (Or.inl (lw_all_tbl q1933)) rfl (lw_all_tbl q1935) (lw_all_tbl q1934) wt_0 rfl dX2_write_141 rfl (rs := fun _ => []) (fun _ => rfl) (fun _ _ => ?_)
      refine s_aload_n o dX2_write_144 rfl 3 rfl ?_
      refine r_getf (vA (mg Γ)) rfl o cf_X16_body (Or.inr (Or.inl ⟨_, q1159⟩)) dX2_write_145 (fun v9 hv9 => ?_)
      refine s_aload_n o dX2_write_148 rfl 0 rfl ?_
      refine s_cu (d := d + 206) (As := [vA (mg Γ) v5]) (st := []) (owner := "LazyForge$Part") o (sv_X4_write (mg Γ) d ts v9 v5) rfl (lw_all_tbl q1972) (lw_all_tbl q1974) (Or.inl q1973) ⟨by decide, by decide⟩ (by decide +kernel) wt_0 rfl dX2_write_149 rfl (rs := fun _ => []) (fun _ => rfl) (fun _ _ => ?_)
      refine s_aload_n o dX2_write_152 rfl 0 rfl ?_
      refine s_ldcS (tx := ";\n") (k := 34) o (by decide +kernel) rfl (by decide) dX2_write_153 ?_
      refine s_cvC (d := d + 206) (As := [vA (mg Γ) (-34)]) (st := []) (c := 2) o (sc_X2_text (mg Γ) (d + 202) ts v5 (-34)) mw_X2_text rfl (Or.inl (lw_all_tbl q1933)) rfl (lw_all_tbl q1935) (lw_all_tbl q1934) wt_0 rfl dX2_write_155 rfl (rs := fun _ => []) (fun _ => rfl) (fun _ _ => ?_)
      refine r_iinc (j := 2) o dX2_write_158 rfl rfl [(0, vA (mg Γ) v5), (1, vA (mg Γ) v6), (3, vA (mg Γ) v8)] [0, 1, 3] rfl ⟨(Nat.ne_of_beq_eq_false rfl), (fun _ => (vA_cat (mg Γ) v5)), ⟨(Nat.ne_of_beq_eq_false rfl), (fun _ => (vA_cat (mg Γ) v6)), ⟨(Nat.ne_of_beq_eq_false rfl), (fun _ => (vA_cat (mg Γ) v8)), trivial⟩⟩⟩ ?_
      refine s_goto (tgt := 80) o dX2_write_161 (by decide) ?_
      refine r_to [(0, vA (mg Γ) v5), (1, vA (mg Γ) v6), (2, vI (w32 (v7 + 1)))] [1, 2, 0] rfl ?_
      exact s_back (w32_R _) rfl
noncomputable def c_X2_write_80 {A : Type} (k_164 : Mo CH A) (l0 : Int) (l1 : Int) (l2 : Int) : Mo CH A := Loop (fun x => c_X2_write_80b k_164 x.1 x.2.1 x.2.2) (l0, l1, l2)
theorem sc_X2_write_80 {Γ : Gm} {ts : TS} {d : Nat} (o : Ok Γ "LazyForge$Writer" cX2_write 5 (Option.none : Option Jvm.ClassFile.FieldType) (d + 207)) {A : Type} {K : A → CH → Prop} (k_164 : Mo CH A) (hk_164 : Sx Γ (fun h => (h, ts)) K 164 [] [] (k_164)) (l0 : Int) (l1 : Int) (l2 : Int) (hl2 : R32 l2) : Sx Γ (fun h => (h, ts)) K 80 [(0, vA (mg Γ) l0), (1, vA (mg Γ) l1), (2, vI l2)] [] (c_X2_write_80 k_164 l0 l1 l2) :=
  s_loop okc_X2_write_80 (lvc_X2_write_80 Γ) (fun x hx => sc_X2_write_80b o k_164 hk_164 x.1 x.2.1 x.2.2 hx) (x := (l0, l1, l2)) hl2
noncomputable def c_X2_write_78  (l0 : Int) (l1 : Int) : Mo CH Int :=
  c_X2_write_80
    (pr 0) l0 l1 0
theorem sc_X2_write_78 {Γ : Gm} {ts : TS} {d : Nat} (o : Ok Γ "LazyForge$Writer" cX2_write 5 (Option.none : Option Jvm.ClassFile.FieldType) (d + 207))   (l0 : Int) (l1 : Int) : Sx Γ (fun h => (h, ts)) (fun a s => mt Γ = (0, a, ((s, ts) : Wd))) 78 [(0, vA (mg Γ) l0), (1, vA (mg Γ) l1)] [] (c_X2_write_78 l0 l1) := by
  unfold c_X2_write_78
  refine s_iconst o dX2_write_78 ?_
  refine r_istore_n o dX2_write_79 rfl rfl ⟨(Nat.ne_of_beq_eq_false rfl), (fun _ => (vA_cat (mg Γ) l0)), ⟨(Nat.ne_of_beq_eq_false rfl), (fun _ => (vA_cat (mg Γ) l1)), trivial⟩⟩ ?_
  refine r_to [(0, vA (mg Γ) l0), (1, vA (mg Γ) l1), (2, vI 0)] [1, 2, 0] rfl ?_
  refine sc_X2_write_80 o _ ?_ l0 l1 0 (r32 rfl)
  · exact s_vret o rfl dX2_write_164 (fun _ hh => hh)
noncomputable def c_X2_write (l0 : Int) (l1 : Int) : Mo CH Int :=
  bnd (pf [102] 1 l0 0) fun _ =>
  bnd (pf [102] 2 l0 l1) fun _ =>
  bnd (gf [115] 7 l1) fun v1 =>
  if v1 ≤ 2 then
    c_X2_write_78 l0 l1
  else
    bnd (isk 102 l0) fun _ =>
    bnd (c_X2_text l0 (-32)) fun _ =>
    c_X2_write_26
      (fun v2 v3 => bnd (isk 102 v2) fun _ =>
    bnd (c_X2_text v2 (-34)) fun _ =>
    c_X2_write_78 v2 v3) l0 l1 2
theorem sc_X2_write (g : gC) (d : Nat) (ts : TS) (l0 : Int) (l1 : Int) : SF g yX2_write (Cond.code yX2_write cX2_write 5 (Option.none : Option Jvm.ClassFile.FieldType)) (Option.none : Option Jvm.ClassFile.FieldType) (d + 207) [vA g l0, vA g l1] (fun h => (h, ts)) (c_X2_write l0 l1) := by
  refine SF.of (lv := [(0, vA g l0), (1, vA g l1)]) (by decide) (wt_A (wt_A wt_0)) rfl (by simp only [la_A, la_I, la_J, la_0]) (fun Γ hg hnm o => ?_)
  subst hg
  have o : Ok Γ "LazyForge$Writer" cX2_write 5 (Option.none : Option Jvm.ClassFile.FieldType) (d + 207) := o
  unfold c_X2_write
  refine s_aload_n o dX2_write_0 rfl 0 rfl ?_
  refine s_iconst o dX2_write_1 ?_
  refine r_putf vI rfl o cf_X2_size (Or.inl (lw_all_tbl q226)) dX2_write_2 (Or.inl rfl) (r32 rfl) ty_int ?_
  refine s_aload_n o dX2_write_5 rfl 0 rfl ?_
  refine s_aload_n o dX2_write_6 rfl 1 rfl ?_
  refine r_putf (vA (mg Γ)) rfl o cf_X2_program (Or.inl (lw_all_tbl q228)) dX2_write_7 (Or.inl rfl) trivial (ty_object _) ?_
  refine s_aload_n o dX2_write_10 rfl 1 rfl ?_
  refine r_getf vI rfl o cf_X15_constructorCount (Or.inr (Or.inl ⟨_, q1080⟩)) dX2_write_11 (fun v1 hv1 => ?_)
  refine s_iconst o dX2_write_14 ?_
  refine s_icmp_le (tgt := 78) o dX2_write_15 (by decide) hv1 (r32 rfl) ?_ ?_
  · exact sc_X2_write_78 o l0 l1
  · refine s_aload_n o dX2_write_18 rfl 0 rfl ?_
    refine s_ldcS (tx := "data ") (k := 32) o (by decide +kernel) rfl (by decide) dX2_write_19 ?_
    refine s_cvC (d := d + 206) (As := [vA (mg Γ) (-32)]) (st := []) (c := 2) o (sc_X2_text (mg Γ) (d + 202) ts l0 (-32)) mw_X2_text rfl (Or.inl (lw_all_tbl q1933)) rfl (lw_all_tbl q1935) (lw_all_tbl q1934) wt_0 rfl dX2_write_21 rfl (rs := fun _ => []) (fun _ => rfl) (fun _ _ => ?_)
    refine s_iconst o dX2_write_24 ?_
    refine r_istore_n o dX2_write_25 rfl rfl ⟨(Nat.ne_of_beq_eq_false rfl), (fun _ => (vA_cat (mg Γ) l0)), ⟨(Nat.ne_of_beq_eq_false rfl), (fun _ => (vA_cat (mg Γ) l1)), trivial⟩⟩ ?_
    refine r_to [(0, vA (mg Γ) l0), (1, vA (mg Γ) l1), (2, vI 2)] [1, 2, 0] rfl ?_
    refine sc_X2_write_26 o _ ?_ l0 l1 2 (r32 rfl)
    · intro v2 v3
      refine s_aload_n o dX2_write_72 rfl 0 rfl ?_
      refine s_ldcS (tx := ";\n") (k := 34) o (by decide +kernel) rfl (by decide) dX2_write_73 ?_
      refine s_cvC (d := d + 206) (As := [vA (mg Γ) (-34)]) (st := []) (c := 2) o (sc_X2_text (mg Γ) (d + 202) ts v2 (-34)) mw_X2_text rfl (Or.inl (lw_all_tbl q1933)) rfl (lw_all_tbl q1935) (lw_all_tbl q1934) wt_0 rfl dX2_write_75 rfl (rs := fun _ => []) (fun _ => rfl) (fun _ _ => ?_)
      exact sc_X2_write_78 o v2 v3
theorem dX2_init_0 : decode cX2_init 0 = .ok (.aload_n 0, 1) := by decide +kernel
theorem dX2_init_1 : decode cX2_init 1 = .ok (.invokespecial 3, 3) := by decide +kernel
theorem dX2_init_4 : decode cX2_init 4 = .ok (.aload_n 0, 1) := by decide +kernel
theorem dX2_init_5 : decode cX2_init 5 = .ok (.sipush 12000, 3) := by decide +kernel
theorem dX2_init_8 : decode cX2_init 8 = .ok (.newarray .char, 2) := by decide +kernel
theorem dX2_init_10 : decode cX2_init 10 = .ok (.putfield 9, 3) := by decide +kernel
theorem dX2_init_13 : decode cX2_init 13 = .ok (.return_, 1) := by decide +kernel
theorem mw_X2_init : MW yX2_init (Cond.code yX2_init cX2_init 1 (Option.none : Option Jvm.ClassFile.FieldType)) cX2_init 1 (Option.none : Option Jvm.ClassFile.FieldType) 0 := ⟨rfl, ⟨(lw_all_tbl q222), rfl, (lw_all_tbl q164)⟩, rfl, ⟨by decide, by decide⟩, by decide +kernel⟩
noncomputable def c_X2_init (l0 : Int) : Mo CH Int :=
  bnd (newa 2 12000) fun v1 =>
  bnd (pf [102] 0 l0 v1) fun _ =>
  pr 0
theorem sc_X2_init (g : gC) (d : Nat) (ts : TS) (l0 : Int) (hl0 : 0 < l0) : SF g yX2_init (Cond.code yX2_init cX2_init 1 (Option.none : Option Jvm.ClassFile.FieldType)) (Option.none : Option Jvm.ClassFile.FieldType) (d + 1) [vA g l0] (fun h => (h, ts)) (c_X2_init l0) := by
  refine SF.of (lv := [(0, vA g l0)]) (by decide) (wt_A wt_0) rfl (by simp only [la_A, la_I, la_J, la_0]) (fun Γ hg hnm o => ?_)
  subst hg
  have o : Ok Γ "LazyForge$Writer" cX2_init 1 (Option.none : Option Jvm.ClassFile.FieldType) (d + 1) := o
  have hnm : (xMe (mx Γ)).name = "<init>" := hnm
  unfold c_X2_init
  refine s_aload_n o dX2_init_0 rfl 0 rfl ?_
  refine s_obj (d := d + 0) o (lw_all_tbl q223) hl0 wt_0 rfl dX2_init_1 (lw_all_tbl q216) (lw_all_tbl q217) ?_
  refine s_aload_n o dX2_init_4 rfl 0 rfl ?_
  refine s_sipush o dX2_init_5 rfl ?_
  refine s_newa (kd := 2) o (by decide) rfl (by decide) (o.ra (by decide)) (lw_all_tbl q236) (r32 rfl) dX2_init_8 (fun v1 hv1 => ?_)
  refine r_putf (vA (mg Γ)) rfl o cf_X2_signs (Or.inl (lw_all_tbl q224)) dX2_init_10 (Or.inr ⟨hnm, rfl, (lw_all_tbl q224)⟩) trivial (ty_array _) ?_
  exact s_vret o rfl dX2_init_13 (fun _ hh => hh)
theorem dX19_init_0 : decode cX19_init 0 = .ok (.aload_n 0, 1) := by decide +kernel
theorem dX19_init_1 : decode cX19_init 1 = .ok (.invokespecial 3, 3) := by decide +kernel
theorem dX19_init_4 : decode cX19_init 4 = .ok (.aload_n 0, 1) := by decide +kernel
theorem dX19_init_5 : decode cX19_init 5 = .ok (.aload_n 1, 1) := by decide +kernel
theorem dX19_init_6 : decode cX19_init 6 = .ok (.putfield 9, 3) := by decide +kernel
theorem dX19_init_9 : decode cX19_init 9 = .ok (.return_, 1) := by decide +kernel
theorem mw_X19_init : MW yX19_init (Cond.code yX19_init cX19_init 2 (Option.none : Option Jvm.ClassFile.FieldType)) cX19_init 2 (Option.none : Option Jvm.ClassFile.FieldType) 1 := ⟨rfl, ⟨(lw_all_tbl q1365), rfl, (lw_all_tbl q199)⟩, rfl, ⟨by decide, by decide⟩, by decide +kernel⟩
noncomputable def c_X19_init (l0 : Int) (l1 : Int) : Mo CH Int :=
  bnd (c_X4_init l0) fun _ =>
  bnd (pf [119] 5 l0 l1) fun _ =>
  pr 0
theorem sc_X19_init (g : gC) (d : Nat) (ts : TS) (l0 : Int) (l1 : Int) (hl0 : 0 < l0) : SF g yX19_init (Cond.code yX19_init cX19_init 2 (Option.none : Option Jvm.ClassFile.FieldType)) (Option.none : Option Jvm.ClassFile.FieldType) (d + 2) [vA g l0, vA g l1] (fun h => (h, ts)) (c_X19_init l0 l1) := by
  refine SF.of (lv := [(0, vA g l0), (1, vA g l1)]) (by decide) (wt_A (wt_A wt_0)) rfl (by simp only [la_A, la_I, la_J, la_0]) (fun Γ hg hnm o => ?_)
  subst hg
  have o : Ok Γ "LazyForge$Named" cX19_init 2 (Option.none : Option Jvm.ClassFile.FieldType) (d + 2) := o
  have hnm : (xMe (mx Γ)).name = "<init>" := hnm
  unfold c_X19_init
  refine s_aload_n o dX19_init_0 rfl 0 rfl ?_
  refine s_ci (d := d + 1) (As := []) (st := []) o (sc_X4_init (mg Γ) d ts l0 hl0) mw_X4_init rfl (Or.inr ⟨_, q1366⟩) (lw_all_tbl q252) rfl hl0 wt_0 rfl dX19_init_1 rfl (fun _ => ?_)
  refine s_aload_n o dX19_init_4 rfl 0 rfl ?_
  refine s_aload_n o dX19_init_5 rfl 1 rfl ?_
  refine r_putf (vA (mg Γ)) rfl o cf_X19_function (Or.inl (lw_all_tbl q1367)) dX19_init_6 (Or.inr ⟨hnm, rfl, (lw_all_tbl q1367)⟩) trivial (ty_object _) ?_
  exact s_vret o rfl dX19_init_9 (fun _ hh => hh)
noncomputable def v_X18_has (l0 : Int) (l1 : Int) : Mo CH Int := dsp l0 [([118], c_X4_has l0 l1)]
theorem sv_X18_has (g : gC) (d : Nat) (ts : TS) (l0 : Int) (l1 : Int) : VR g ts ⟨"LazyForge$Let", "has", "(LLazyForge$Part;)V"⟩ none 1 (d + 1) l0 [vA g l1] (v_X18_has l0 l1) := (VR.cons (x0 := ⟨"LazyForge$Let", "has", "(LLazyForge$Part;)V"⟩) ⟨⟨18, _, rfl, rfl, (lw_all_tbl q1331)⟩, trivial⟩ (lw_all_tbl q1332) mw_X4_has (sc_X4_has g (d + 0) ts l0 l1) VR.nil)
theorem dX18_init_0 : decode cX18_init 0 = .ok (.aload_n 0, 1) := by decide +kernel
theorem dX18_init_1 : decode cX18_init 1 = .ok (.invokespecial 1, 3) := by decide +kernel
theorem dX18_init_4 : decode cX18_init 4 = .ok (.aload_n 0, 1) := by decide +kernel
theorem dX18_init_5 : decode cX18_init 5 = .ok (.aload_n 1, 1) := by decide +kernel
theorem dX18_init_6 : decode cX18_init 6 = .ok (.putfield 7, 3) := by decide +kernel
theorem dX18_init_9 : decode cX18_init 9 = .ok (.aload_n 0, 1) := by decide +kernel
theorem dX18_init_10 : decode cX18_init 10 = .ok (.aload_n 2, 1) := by decide +kernel
theorem dX18_init_11 : decode cX18_init 11 = .ok (.putfield 13, 3) := by decide +kernel
theorem dX18_init_14 : decode cX18_init 14 = .ok (.aload_n 0, 1) := by decide +kernel
theorem dX18_init_15 : decode cX18_init 15 = .ok (.aload_n 3, 1) := by decide +kernel
theorem dX18_init_16 : decode cX18_init 16 = .ok (.putfield 17, 3) := by decide +kernel
theorem dX18_init_19 : decode cX18_init 19 = .ok (.aload_n 2, 1) := by decide +kernel
theorem dX18_init_20 : decode cX18_init 20 = .ok (.astore 4, 2) := by decide +kernel
theorem dX18_init_22 : decode cX18_init 22 = .ok (.aload 4, 2) := by decide +kernel
theorem dX18_init_24 : decode cX18_init 24 = .ok (.arraylength, 1) := by decide +kernel
theorem dX18_init_25 : decode cX18_init 25 = .ok (.istore 5, 2) := by decide +kernel
theorem dX18_init_27 : decode cX18_init 27 = .ok (.iconst 0, 1) := by decide +kernel
theorem dX18_init_28 : decode cX18_init 28 = .ok (.istore 6, 2) := by decide +kernel
theorem dX18_init_30 : decode cX18_init 30 = .ok (.iload 6, 2) := by decide +kernel
theorem dX18_init_32 : decode cX18_init 32 = .ok (.iload 5, 2) := by decide +kernel
theorem dX18_init_34 : decode cX18_init 34 = .ok (.if_icmp .ge 22, 3) := by decide +kernel
theorem dX18_init_37 : decode cX18_init 37 = .ok (.aload 4, 2) := by decide +kernel
theorem dX18_init_39 : decode cX18_init 39 = .ok (.iload 6, 2) := by decide +kernel
theorem dX18_init_41 : decode cX18_init 41 = .ok (.aaload, 1) := by decide +kernel
theorem dX18_init_42 : decode cX18_init 42 = .ok (.astore 7, 2) := by decide +kernel
theorem dX18_init_44 : decode cX18_init 44 = .ok (.aload_n 0, 1) := by decide +kernel
theorem dX18_init_45 : decode cX18_init 45 = .ok (.aload 7, 2) := by decide +kernel
theorem dX18_init_47 : decode cX18_init 47 = .ok (.invokevirtual 21, 3) := by decide +kernel
theorem dX18_init_50 : decode cX18_init 50 = .ok (.iinc 6 1, 3) := by decide +kernel
theorem dX18_init_53 : decode cX18_init 53 = .ok (.goto (-23), 3) := by decide +kernel
theorem dX18_init_56 : decode cX18_init 56 = .ok (.aload_n 0, 1) := by decide +kernel
theorem dX18_init_57 : decode cX18_init 57 = .ok (.aload_n 3, 1) := by decide +kernel
theorem dX18_init_58 : decode cX18_init 58 = .ok (.invokevirtual 21, 3) := by decide +kernel
theorem dX18_init_61 : decode cX18_init 61 = .ok (.return_, 1) := by decide +kernel
theorem mw_X18_init : MW yX18_init (Cond.code yX18_init cX18_init 8 (Option.none : Option Jvm.ClassFile.FieldType)) cX18_init 8 (Option.none : Option Jvm.ClassFile.FieldType) 3 := ⟨rfl, ⟨(lw_all_tbl q1326), rfl, (lw_all_tbl q198)⟩, rfl, ⟨by decide, by decide⟩, by decide +kernel⟩
abbrev okc_X18_init_30 (x : Int × Int × Int × Int × Int) : Prop := 0 < x.1 ∧ R32 x.2.2.2.1 ∧ R32 x.2.2.2.2
abbrev lvc_X18_init_30 (Γ : Gm) (x : Int × Int × Int × Int × Int) : List (Nat × Value) := [(0, vA (mg Γ) x.1), (3, vA (mg Γ) x.2.1), (4, vA (mg Γ) x.2.2.1), (5, vI x.2.2.2.1), (6, vI x.2.2.2.2)]
noncomputable def c_X18_init_30b {A : Type} (k_56 : Int → Int → Mo CH A) (l0 : Int) (l3 : Int) (l4 : Int) (l5 : Int) (l6 : Int) : Mo CH ((Int × Int × Int × Int × Int) ⊕ A) :=
  if l5 ≤ l6 then
    lo (k_56 l0 l3)
  else
    bnd (ald 5 l4 l6) fun v1 =>
    bnd (v_X18_has l0 v1) fun _ =>
    pr (.inl (l0, l3, l4, l5, (w32 (l6 + 1))))
theorem sc_X18_init_30b {Γ : Gm} {ts : TS} {d : Nat} (hnm : (xMe (mx Γ)).name = "<init>") (o : Ok Γ "LazyForge$Let" cX18_init 8 (Option.none : Option Jvm.ClassFile.FieldType) (d + 2)) {A : Type} {K : A → CH → Prop} (k_56 : Int → Int → Mo CH A) (hk_56 : ∀ (l0 : Int) (l3 : Int), 0 < l0 → Sx Γ (fun h => (h, ts)) K 56 [(0, vA (mg Γ) l0), (3, vA (mg Γ) l3)] [] (k_56 l0 l3)) (l0 : Int) (l3 : Int) (l4 : Int) (l5 : Int) (l6 : Int) (hl0 : 0 < l0) (hl5 : R32 l5) (hl6 : R32 l6) : Sx Γ (fun h => (h, ts)) (KL Γ (fun h => (h, ts)) okc_X18_init_30 K 30 (lvc_X18_init_30 Γ) []) 30 [(0, vA (mg Γ) l0), (3, vA (mg Γ) l3), (4, vA (mg Γ) l4), (5, vI l5), (6, vI l6)] [] (c_X18_init_30b k_56 l0 l3 l4 l5 l6) := by
  unfold c_X18_init_30b
  refine s_iload o dX18_init_30 4 rfl ?_
  refine s_iload o dX18_init_32 3 rfl ?_
  refine s_icmp_ge (tgt := 56) o dX18_init_34 (by decide) hl6 hl5 ?_ ?_
  · refine r_to [(0, vA (mg Γ) l0), (3, vA (mg Γ) l3)] [0, 1] rfl ?_
    exact s_lo (hk_56 l0 l3 hl0)
  · refine s_aload o dX18_init_37 2 rfl ?_
    refine s_iload o dX18_init_39 4 rfl ?_
    refine r_aald (kd := 5) o (by decide) rfl hl6 dX18_init_41 (fun v1 => ?_)
    refine r_astore o dX18_init_42 rfl ⟨(Nat.ne_of_beq_eq_false rfl), (fun _ => (vA_cat (mg Γ) l0)), ⟨(Nat.ne_of_beq_eq_false rfl), (fun _ => (vA_cat (mg Γ) l3)), ⟨(Nat.ne_of_beq_eq_false rfl), (fun _ => (vA_cat (mg Γ) l4)), ⟨(Nat.ne_of_beq_eq_false rfl), (fun _ => rfl), ⟨(Nat.ne_of_beq_eq_false rfl), (fun _ => rfl), trivial⟩⟩⟩⟩⟩ ?_
    refine s_aload_n o dX18_init_44 rfl 1 rfl ?_
    refine s_aload o dX18_init_45 0 rfl ?_
    refine s_cu (d := d + 1) (As := [vA (mg Γ) v1]) (st := []) (owner := "LazyForge$Part") o (sv_X18_has (mg Γ) d ts l0 v1) rfl (lw_all_tbl q1328) (lw_all_tbl q1329) (Or.inl q1330) ⟨by decide, by decide⟩ (by decide +kernel) wt_0 rfl dX18_init_47 rfl (rs := fun _ => []) (fun _ => rfl) (fun _ _ => ?_)
    refine r_iinc (j := 5) o dX18_init_50 rfl rfl [(7, vA (mg Γ) v1), (0, vA (mg Γ) l0), (3, vA (mg Γ) l3), (4, vA (mg Γ) l4), (5, vI l5)] [0, 1, 2, 3, 4] rfl ⟨(Nat.ne_of_beq_eq_false rfl), (fun _ => (vA_cat (mg Γ) v1)), ⟨(Nat.ne_of_beq_eq_false rfl), (fun _ => (vA_cat (mg Γ) l0)), ⟨(Nat.ne_of_beq_eq_false rfl), (fun _ => (vA_cat (mg Γ) l3)), ⟨(Nat.ne_of_beq_eq_false rfl), (fun _ => (vA_cat (mg Γ) l4)), ⟨(Nat.ne_of_beq_eq_false rfl), (fun _ => rfl), trivial⟩⟩⟩⟩⟩ ?_
    refine s_goto (tgt := 30) o dX18_init_53 (by decide) ?_
    refine r_to [(0, vA (mg Γ) l0), (3, vA (mg Γ) l3), (4, vA (mg Γ) l4), (5, vI l5), (6, vI (w32 (l6 + 1)))] [2, 3, 4, 5, 0] rfl ?_
    exact s_back (⟨hl0, hl5, (w32_R _)⟩) rfl
noncomputable def c_X18_init_30 {A : Type} (k_56 : Int → Int → Mo CH A) (l0 : Int) (l3 : Int) (l4 : Int) (l5 : Int) (l6 : Int) : Mo CH A := Loop (fun x => c_X18_init_30b k_56 x.1 x.2.1 x.2.2.1 x.2.2.2.1 x.2.2.2.2) (l0, l3, l4, l5, l6)
theorem sc_X18_init_30 {Γ : Gm} {ts : TS} {d : Nat} (hnm : (xMe (mx Γ)).name = "<init>") (o : Ok Γ "LazyForge$Let" cX18_init 8 (Option.none : Option Jvm.ClassFile.FieldType) (d + 2)) {A : Type} {K : A → CH → Prop} (k_56 : Int → Int → Mo CH A) (hk_56 : ∀ (l0 : Int) (l3 : Int), 0 < l0 → Sx Γ (fun h => (h, ts)) K 56 [(0, vA (mg Γ) l0), (3, vA (mg Γ) l3)] [] (k_56 l0 l3)) (l0 : Int) (l3 : Int) (l4 : Int) (l5 : Int) (l6 : Int) (hl0 : 0 < l0) (hl5 : R32 l5) (hl6 : R32 l6) : Sx Γ (fun h => (h, ts)) K 30 [(0, vA (mg Γ) l0), (3, vA (mg Γ) l3), (4, vA (mg Γ) l4), (5, vI l5), (6, vI l6)] [] (c_X18_init_30 k_56 l0 l3 l4 l5 l6) :=
  s_loop okc_X18_init_30 (lvc_X18_init_30 Γ) (fun x hx => sc_X18_init_30b hnm o k_56 hk_56 x.1 x.2.1 x.2.2.1 x.2.2.2.1 x.2.2.2.2 hx.1 hx.2.1 hx.2.2) (x := (l0, l3, l4, l5, l6)) ⟨hl0, hl5, hl6⟩
noncomputable def c_X18_init (l0 : Int) (l1 : Int) (l2 : Int) (l3 : Int) : Mo CH Int :=
  bnd (c_X4_init l0) fun _ =>
  bnd (pf [118] 5 l0 l1) fun _ =>
  bnd (pf [118] 6 l0 l2) fun _ =>
  bnd (pf [118] 7 l0 l3) fun _ =>
  bnd (aln l2) fun v1 =>
  c_X18_init_30
    (fun v2 v3 => bnd (v_X18_has v2 v3) fun _ =>
  pr 0) l0 l3 l2 v1 0
theorem sc_X18_init (g : gC) (d : Nat) (ts : TS) (l0 : Int) (l1 : Int) (l2 : Int) (l3 : Int) (hl0 : 0 < l0) : SF g yX18_init (Cond.code yX18_init cX18_init 8 (Option.none : Option Jvm.ClassFile.FieldType)) (Option.none : Option Jvm.ClassFile.FieldType) (d + 2) [vA g l0, vA g l1, vA g l2, vA g l3] (fun h => (h, ts)) (c_X18_init l0 l1 l2 l3) := by
  refine SF.of (lv := [(0, vA g l0), (1, vA g l1), (2, vA g l2), (3, vA g l3)]) (by decide) (wt_A (wt_A (wt_A (wt_A wt_0)))) rfl (by simp only [la_A, la_I, la_J, la_0]) (fun Γ hg hnm o => ?_)
  subst hg
  have o : Ok Γ "LazyForge$Let" cX18_init 8 (Option.none : Option Jvm.ClassFile.FieldType) (d + 2) := o
  have hnm : (xMe (mx Γ)).name = "<init>" := hnm
  unfold c_X18_init
  refine s_aload_n o dX18_init_0 rfl 0 rfl ?_
  refine s_ci (d := d + 1) (As := []) (st := []) o (sc_X4_init (mg Γ) d ts l0 hl0) mw_X4_init rfl (Or.inr ⟨_, q1327⟩) (lw_all_tbl q252) rfl hl0 wt_0 rfl dX18_init_1 rfl (fun _ => ?_)
  refine s_aload_n o dX18_init_4 rfl 0 rfl ?_
  refine s_aload_n o dX18_init_5 rfl 1 rfl ?_
  refine r_putf (vA (mg Γ)) rfl o cf_X18_names (Or.inl (lw_all_tbl q1335)) dX18_init_6 (Or.inr ⟨hnm, rfl, (lw_all_tbl q1335)⟩) trivial (ty_array _) ?_
  refine s_aload_n o dX18_init_9 rfl 0 rfl ?_
  refine s_aload_n o dX18_init_10 rfl 2 rfl ?_
  refine r_putf (vA (mg Γ)) rfl o cf_X18_bound (Or.inl (lw_all_tbl q1336)) dX18_init_11 (Or.inr ⟨hnm, rfl, (lw_all_tbl q1336)⟩) trivial (ty_array _) ?_
  refine s_aload_n o dX18_init_14 rfl 0 rfl ?_
  refine s_aload_n o dX18_init_15 rfl 3 rfl ?_
  refine r_putf (vA (mg Γ)) rfl o cf_X18_body (Or.inl (lw_all_tbl q1337)) dX18_init_16 (Or.inr ⟨hnm, rfl, (lw_all_tbl q1337)⟩) trivial (ty_object _) ?_
  refine s_aload_n o dX18_init_19 rfl 2 rfl ?_
  refine r_astore o dX18_init_20 rfl ⟨(Nat.ne_of_beq_eq_false rfl), (fun _ => (vA_cat (mg Γ) l0)), ⟨(Nat.ne_of_beq_eq_false rfl), (fun _ => (vA_cat (mg Γ) l1)), ⟨(Nat.ne_of_beq_eq_false rfl), (fun _ => (vA_cat (mg Γ) l2)), ⟨(Nat.ne_of_beq_eq_false rfl), (fun _ => (vA_cat (mg Γ) l3)), trivial⟩⟩⟩⟩ ?_
  refine s_aload o dX18_init_22 0 rfl ?_
  refine s_alen o dX18_init_24 (fun v1 hv1 => ?_)
  refine r_istore o dX18_init_25 rfl ⟨(Nat.ne_of_beq_eq_false rfl), (fun _ => (vA_cat (mg Γ) l2)), ⟨(Nat.ne_of_beq_eq_false rfl), (fun _ => (vA_cat (mg Γ) l0)), ⟨(Nat.ne_of_beq_eq_false rfl), (fun _ => (vA_cat (mg Γ) l1)), ⟨(Nat.ne_of_beq_eq_false rfl), (fun _ => (vA_cat (mg Γ) l2)), ⟨(Nat.ne_of_beq_eq_false rfl), (fun _ => (vA_cat (mg Γ) l3)), trivial⟩⟩⟩⟩⟩ ?_
  refine s_iconst o dX18_init_27 ?_
  refine r_istore o dX18_init_28 rfl ⟨(Nat.ne_of_beq_eq_false rfl), (fun _ => rfl), ⟨(Nat.ne_of_beq_eq_false rfl), (fun _ => (vA_cat (mg Γ) l2)), ⟨(Nat.ne_of_beq_eq_false rfl), (fun _ => (vA_cat (mg Γ) l0)), ⟨(Nat.ne_of_beq_eq_false rfl), (fun _ => (vA_cat (mg Γ) l1)), ⟨(Nat.ne_of_beq_eq_false rfl), (fun _ => (vA_cat (mg Γ) l2)), ⟨(Nat.ne_of_beq_eq_false rfl), (fun _ => (vA_cat (mg Γ) l3)), trivial⟩⟩⟩⟩⟩⟩ ?_
  refine r_to [(0, vA (mg Γ) l0), (3, vA (mg Γ) l3), (4, vA (mg Γ) l2), (5, vI v1), (6, vI 0)] [3, 6, 2, 1, 0] rfl ?_
  refine sc_X18_init_30 hnm o _ ?_ l0 l3 l2 v1 0 hl0 (rN hv1) (r32 rfl)
  · intro v2 v3 hv2
    refine s_aload_n o dX18_init_56 rfl 0 rfl ?_
    refine s_aload_n o dX18_init_57 rfl 1 rfl ?_
    refine s_cu (d := d + 1) (As := [vA (mg Γ) v3]) (st := []) (owner := "LazyForge$Part") o (sv_X18_has (mg Γ) d ts v2 v3) rfl (lw_all_tbl q1328) (lw_all_tbl q1329) (Or.inl q1330) ⟨by decide, by decide⟩ (by decide +kernel) wt_0 rfl dX18_init_58 rfl (rs := fun _ => []) (fun _ => rfl) (fun _ _ => ?_)
    exact s_vret o rfl dX18_init_61 (fun _ hh => hh)
theorem dX17_init_0 : decode cX17_init 0 = .ok (.aload_n 0, 1) := by decide +kernel
theorem dX17_init_1 : decode cX17_init 1 = .ok (.invokespecial 1, 3) := by decide +kernel
theorem dX17_init_4 : decode cX17_init 4 = .ok (.aload_n 0, 1) := by decide +kernel
theorem dX17_init_5 : decode cX17_init 5 = .ok (.aload_n 1, 1) := by decide +kernel
theorem dX17_init_6 : decode cX17_init 6 = .ok (.putfield 7, 3) := by decide +kernel
theorem dX17_init_9 : decode cX17_init 9 = .ok (.return_, 1) := by decide +kernel
theorem mw_X17_init : MW yX17_init (Cond.code yX17_init cX17_init 2 (Option.none : Option Jvm.ClassFile.FieldType)) cX17_init 2 (Option.none : Option Jvm.ClassFile.FieldType) 1 := ⟨rfl, ⟨(lw_all_tbl q1285), rfl, (lw_all_tbl q197)⟩, rfl, ⟨by decide, by decide⟩, by decide +kernel⟩
noncomputable def c_X17_init (l0 : Int) (l1 : Int) : Mo CH Int :=
  bnd (pf [117] 0 l0 l1) fun _ =>
  pr 0
theorem sc_X17_init (g : gC) (d : Nat) (ts : TS) (l0 : Int) (l1 : Int) (hl0 : 0 < l0) : SF g yX17_init (Cond.code yX17_init cX17_init 2 (Option.none : Option Jvm.ClassFile.FieldType)) (Option.none : Option Jvm.ClassFile.FieldType) (d + 1) [vA g l0, vA g l1] (fun h => (h, ts)) (c_X17_init l0 l1) := by
  refine SF.of (lv := [(0, vA g l0), (1, vA g l1)]) (by decide) (wt_A (wt_A wt_0)) rfl (by simp only [la_A, la_I, la_J, la_0]) (fun Γ hg hnm o => ?_)
  subst hg
  have o : Ok Γ "LazyForge$Variable" cX17_init 2 (Option.none : Option Jvm.ClassFile.FieldType) (d + 1) := o
  have hnm : (xMe (mx Γ)).name = "<init>" := hnm
  unfold c_X17_init
  refine s_aload_n o dX17_init_0 rfl 0 rfl ?_
  refine s_obj (d := d + 0) o (lw_all_tbl q1286) hl0 wt_0 rfl dX17_init_1 (lw_all_tbl q216) (lw_all_tbl q217) ?_
  refine s_aload_n o dX17_init_4 rfl 0 rfl ?_
  refine s_aload_n o dX17_init_5 rfl 1 rfl ?_
  refine r_putf (vA (mg Γ)) rfl o cf_X17_owner (Or.inl (lw_all_tbl q1287)) dX17_init_6 (Or.inr ⟨hnm, rfl, (lw_all_tbl q1287)⟩) trivial (ty_object _) ?_
  exact s_vret o rfl dX17_init_9 (fun _ hh => hh)
theorem dX16_count_0 : decode cX16_count 0 = .ok (.iconst 0, 1) := by decide +kernel
theorem dX16_count_1 : decode cX16_count 1 = .ok (.istore_n 1, 1) := by decide +kernel
theorem dX16_count_2 : decode cX16_count 2 = .ok (.iload_n 1, 1) := by decide +kernel
theorem dX16_count_3 : decode cX16_count 3 = .ok (.aload_n 0, 1) := by decide +kernel
theorem dX16_count_4 : decode cX16_count 4 = .ok (.getfield 9, 3) := by decide +kernel
theorem dX16_count_7 : decode cX16_count 7 = .ok (.arraylength, 1) := by decide +kernel
theorem dX16_count_8 : decode cX16_count 8 = .ok (.if_icmp .ge 27, 3) := by decide +kernel
theorem dX16_count_11 : decode cX16_count 11 = .ok (.aload_n 0, 1) := by decide +kernel
theorem dX16_count_12 : decode cX16_count 12 = .ok (.getfield 9, 3) := by decide +kernel
theorem dX16_count_15 : decode cX16_count 15 = .ok (.iload_n 1, 1) := by decide +kernel
theorem dX16_count_16 : decode cX16_count 16 = .ok (.aaload, 1) := by decide +kernel
theorem dX16_count_17 : decode cX16_count 17 = .ok (.aload_n 0, 1) := by decide +kernel
theorem dX16_count_18 : decode cX16_count 18 = .ok (.getfield 18, 3) := by decide +kernel
theorem dX16_count_21 : decode cX16_count 21 = .ok (.invokevirtual 36, 3) := by decide +kernel
theorem dX16_count_24 : decode cX16_count 24 = .ok (.iload_n 1, 1) := by decide +kernel
theorem dX16_count_25 : decode cX16_count 25 = .ok (.iadd, 1) := by decide +kernel
theorem dX16_count_26 : decode cX16_count 26 = .ok (.putfield 57, 3) := by decide +kernel
theorem dX16_count_29 : decode cX16_count 29 = .ok (.iinc 1 1, 3) := by decide +kernel
theorem dX16_count_32 : decode cX16_count 32 = .ok (.goto (-30), 3) := by decide +kernel
theorem dX16_count_35 : decode cX16_count 35 = .ok (.iconst 0, 1) := by decide +kernel
theorem dX16_count_36 : decode cX16_count 36 = .ok (.istore_n 1, 1) := by decide +kernel
theorem dX16_count_37 : decode cX16_count 37 = .ok (.iload_n 1, 1) := by decide +kernel
theorem dX16_count_38 : decode cX16_count 38 = .ok (.aload_n 0, 1) := by decide +kernel
theorem dX16_count_39 : decode cX16_count 39 = .ok (.getfield 22, 3) := by decide +kernel
theorem dX16_count_42 : decode cX16_count 42 = .ok (.invokevirtual 36, 3) := by decide +kernel
theorem dX16_count_45 : decode cX16_count 45 = .ok (.if_icmp .ge 29, 3) := by decide +kernel
theorem dX16_count_48 : decode cX16_count 48 = .ok (.aload_n 0, 1) := by decide +kernel
theorem dX16_count_49 : decode cX16_count 49 = .ok (.getfield 22, 3) := by decide +kernel
theorem dX16_count_52 : decode cX16_count 52 = .ok (.iload_n 1, 1) := by decide +kernel
theorem dX16_count_53 : decode cX16_count 53 = .ok (.invokevirtual 58, 3) := by decide +kernel
theorem dX16_count_56 : decode cX16_count 56 = .ok (.checkcast 7, 3) := by decide +kernel
theorem dX16_count_59 : decode cX16_count 59 = .ok (.aload_n 0, 1) := by decide +kernel
theorem dX16_count_60 : decode cX16_count 60 = .ok (.invokevirtual 47, 3) := by decide +kernel
theorem dX16_count_63 : decode cX16_count 63 = .ok (.iload_n 1, 1) := by decide +kernel
theorem dX16_count_64 : decode cX16_count 64 = .ok (.iadd, 1) := by decide +kernel
theorem dX16_count_65 : decode cX16_count 65 = .ok (.putfield 57, 3) := by decide +kernel
theorem dX16_count_68 : decode cX16_count 68 = .ok (.iinc 1 1, 3) := by decide +kernel
theorem dX16_count_71 : decode cX16_count 71 = .ok (.goto (-34), 3) := by decide +kernel
theorem dX16_count_74 : decode cX16_count 74 = .ok (.return_, 1) := by decide +kernel
theorem mw_X16_count : MW yX16_count (Cond.code yX16_count cX16_count 2 (Option.none : Option Jvm.ClassFile.FieldType)) cX16_count 2 (Option.none : Option Jvm.ClassFile.FieldType) 0 := ⟨rfl, ⟨(lw_all_tbl q1612), rfl, (lw_all_tbl q193)⟩, rfl, ⟨by decide, by decide⟩, by decide +kernel⟩
abbrev okc_X16_count_2 (x : Int × Int) : Prop := R32 x.2
abbrev lvc_X16_count_2 (Γ : Gm) (x : Int × Int) : List (Nat × Value) := [(0, vA (mg Γ) x.1), (1, vI x.2)]
noncomputable def c_X16_count_2b {A : Type} (k_35 : Int → Mo CH A) (l0 : Int) (l1 : Int) : Mo CH ((Int × Int) ⊕ A) :=
  bnd (gf [116] 3 l0) fun v1 =>
  bnd (aln v1) fun v2 =>
  if v2 ≤ l1 then
    lo (k_35 l0)
  else
    bnd (gf [116] 3 l0) fun v3 =>
    bnd (ald 7 v3 l1) fun v4 =>
    bnd (gf [116] 4 l0) fun v5 =>
    bnd (isk 127 v5) fun _ =>
    bnd (c_J13_size v5) fun v6 =>
    bnd (pf [117] 1 v4 (w32 (v6 + l1))) fun _ =>
    pr (.inl (l0, (w32 (l1 + 1))))
theorem sc_X16_count_2b {Γ : Gm} {ts : TS} {d : Nat} (o : Ok Γ "LazyForge$Function" cX16_count 2 (Option.none : Option Jvm.ClassFile.FieldType) (d + 3)) {A : Type} {K : A → CH → Prop} (k_35 : Int → Mo CH A) (hk_35 : ∀ (l0 : Int), Sx Γ (fun h => (h, ts)) K 35 [(0, vA (mg Γ) l0)] [] (k_35 l0)) (l0 : Int) (l1 : Int) (hl1 : R32 l1) : Sx Γ (fun h => (h, ts)) (KL Γ (fun h => (h, ts)) okc_X16_count_2 K 2 (lvc_X16_count_2 Γ) []) 2 [(0, vA (mg Γ) l0), (1, vI l1)] [] (c_X16_count_2b k_35 l0 l1) := by
  unfold c_X16_count_2b
  refine s_iload_n o dX16_count_2 rfl 1 rfl ?_
  refine s_aload_n o dX16_count_3 rfl 0 rfl ?_
  refine r_getf (vA (mg Γ)) rfl o cf_X16_own (Or.inl (lw_all_tbl q1152)) dX16_count_4 (fun v1 hv1 => ?_)
  refine s_alen o dX16_count_7 (fun v2 hv2 => ?_)
  refine s_icmp_ge (tgt := 35) o dX16_count_8 (by decide) hl1 (rN hv2) ?_ ?_
  · refine r_to [(0, vA (mg Γ) l0)] [0] rfl ?_
    exact s_lo (hk_35 l0)
  · refine s_aload_n o dX16_count_11 rfl 0 rfl ?_
    refine r_getf (vA (mg Γ)) rfl o cf_X16_own (Or.inl (lw_all_tbl q1152)) dX16_count_12 (fun v3 hv3 => ?_)
    refine s_iload_n o dX16_count_15 rfl 1 rfl ?_
    refine r_aald (kd := 7) o (by decide) rfl hl1 dX16_count_16 (fun v4 => ?_)
    refine s_aload_n o dX16_count_17 rfl 0 rfl ?_
    refine r_getf (vA (mg Γ)) rfl o cf_X16_free (Or.inl (lw_all_tbl q1154)) dX16_count_18 (fun v5 hv5 => ?_)
    refine s_cvC (d := d + 2) (As := []) (st := [vA (mg Γ) v4]) (c := 27) o (sc_J13_size (mg Γ) (d + 2) ts v5) mw_J13_size rfl (Or.inl (lw_all_tbl q1608)) rfl (lw_all_tbl q1359) (lw_all_tbl q1358) (wt_A wt_0) rfl dX16_count_21 rfl (rs := fun r => [vI r, vA (mg Γ) v4]) (fun _ => rfl) (fun v6 hv6 => ?_)
    refine s_iload_n o dX16_count_24 rfl 1 rfl ?_
    refine s_iadd o dX16_count_25 ?_
    refine r_putf vI rfl o cf_X17_number (Or.inr (Or.inl ⟨_, q1292⟩)) dX16_count_26 (Or.inl rfl) (w32_R _) ty_int ?_
    refine r_iinc (j := 1) o dX16_count_29 rfl rfl [(0, vA (mg Γ) l0)] [0] rfl ⟨(Nat.ne_of_beq_eq_false rfl), (fun _ => (vA_cat (mg Γ) l0)), trivial⟩ ?_
    refine s_goto (tgt := 2) o dX16_count_32 (by decide) ?_
    refine r_to [(0, vA (mg Γ) l0), (1, vI (w32 (l1 + 1)))] [1, 0] rfl ?_
    exact s_back (w32_R _) rfl
noncomputable def c_X16_count_2 {A : Type} (k_35 : Int → Mo CH A) (l0 : Int) (l1 : Int) : Mo CH A := Loop (fun x => c_X16_count_2b k_35 x.1 x.2) (l0, l1)
theorem sc_X16_count_2 {Γ : Gm} {ts : TS} {d : Nat} (o : Ok Γ "LazyForge$Function" cX16_count 2 (Option.none : Option Jvm.ClassFile.FieldType) (d + 3)) {A : Type} {K : A → CH → Prop} (k_35 : Int → Mo CH A) (hk_35 : ∀ (l0 : Int), Sx Γ (fun h => (h, ts)) K 35 [(0, vA (mg Γ) l0)] [] (k_35 l0)) (l0 : Int) (l1 : Int) (hl1 : R32 l1) : Sx Γ (fun h => (h, ts)) K 2 [(0, vA (mg Γ) l0), (1, vI l1)] [] (c_X16_count_2 k_35 l0 l1) :=
  s_loop okc_X16_count_2 (lvc_X16_count_2 Γ) (fun x hx => sc_X16_count_2b o k_35 hk_35 x.1 x.2 hx) (x := (l0, l1)) hl1
abbrev okc_X16_count_37 (x : Int × Int) : Prop := R32 x.2
abbrev lvc_X16_count_37 (Γ : Gm) (x : Int × Int) : List (Nat × Value) := [(0, vA (mg Γ) x.1), (1, vI x.2)]
noncomputable def c_X16_count_37b {A : Type} (k_74 : Mo CH A) (l0 : Int) (l1 : Int) : Mo CH ((Int × Int) ⊕ A) :=
  bnd (gf [116] 5 l0) fun v1 =>
  bnd (isk 127 v1) fun _ =>
  bnd (c_J13_size v1) fun v2 =>
  if v2 ≤ l1 then
    lo k_74
  else
    bnd (gf [116] 5 l0) fun v3 =>
    bnd (isk 127 v3) fun _ =>
    bnd (c_J13_get v3 l1) fun v4 =>
    bnd (ckk [117] v4) fun _ =>
    bnd (isk 116 l0) fun _ =>
    bnd (c_X16_parameters l0) fun v5 =>
    bnd (pf [117] 1 v4 (w32 (v5 + l1))) fun _ =>
    pr (.inl (l0, (w32 (l1 + 1))))
theorem sc_X16_count_37b {Γ : Gm} {ts : TS} {d : Nat} (o : Ok Γ "LazyForge$Function" cX16_count 2 (Option.none : Option Jvm.ClassFile.FieldType) (d + 3)) {A : Type} {K : A → CH → Prop} (k_74 : Mo CH A) (hk_74 : Sx Γ (fun h => (h, ts)) K 74 [] [] (k_74)) (l0 : Int) (l1 : Int) (hl1 : R32 l1) : Sx Γ (fun h => (h, ts)) (KL Γ (fun h => (h, ts)) okc_X16_count_37 K 37 (lvc_X16_count_37 Γ) []) 37 [(0, vA (mg Γ) l0), (1, vI l1)] [] (c_X16_count_37b k_74 l0 l1) := by
  unfold c_X16_count_37b
  refine s_iload_n o dX16_count_37 rfl 1 rfl ?_
  refine s_aload_n o dX16_count_38 rfl 0 rfl ?_
  refine r_getf (vA (mg Γ)) rfl o cf_X16_locals (Or.inl (lw_all_tbl q1157)) dX16_count_39 (fun v1 hv1 => ?_)
  refine s_cvC (d := d + 2) (As := []) (st := [vI l1]) (c := 27) o (sc_J13_size (mg Γ) (d + 2) ts v1) mw_J13_size rfl (Or.inl (lw_all_tbl q1608)) rfl (lw_all_tbl q1359) (lw_all_tbl q1358) (wt_I wt_0) rfl dX16_count_42 rfl (rs := fun r => [vI r, vI l1]) (fun _ => rfl) (fun v2 hv2 => ?_)
  refine s_icmp_ge (tgt := 74) o dX16_count_45 (by decide) hl1 (hv2 _ rfl) ?_ ?_
  · refine r_to [] [] rfl ?_
    exact s_lo hk_74
  · refine s_aload_n o dX16_count_48 rfl 0 rfl ?_
    refine r_getf (vA (mg Γ)) rfl o cf_X16_locals (Or.inl (lw_all_tbl q1157)) dX16_count_49 (fun v3 hv3 => ?_)
    refine s_iload_n o dX16_count_52 rfl 1 rfl ?_
    refine s_cvC (d := d + 2) (As := [vI l1]) (st := []) (c := 27) o (sc_J13_get (mg Γ) d ts v3 l1 hl1) mw_J13_get rfl (Or.inl (lw_all_tbl q1613)) rfl (lw_all_tbl q1268) (lw_all_tbl q1267) wt_0 rfl dX16_count_53 rfl (rs := fun r => [vA (mg Γ) r]) (fun _ => rfl) (fun v4 hv4 => ?_)
    refine s_cast o (cs_X17 o) (lw_all_tbl q1141) dX16_count_56 ?_
    refine s_aload_n o dX16_count_59 rfl 0 rfl ?_
    refine s_cvC (d := d + 2) (As := []) (st := [vA (mg Γ) v4]) (c := 16) o (sc_X16_parameters (mg Γ) (d + 1) ts l0) mw_X16_parameters rfl (Or.inl (lw_all_tbl q1614)) rfl (lw_all_tbl q1606) (lw_all_tbl q1605) (wt_A wt_0) rfl dX16_count_60 rfl (rs := fun r => [vI r, vA (mg Γ) v4]) (fun _ => rfl) (fun v5 hv5 => ?_)
    refine s_iload_n o dX16_count_63 rfl 1 rfl ?_
    refine s_iadd o dX16_count_64 ?_
    refine r_putf vI rfl o cf_X17_number (Or.inr (Or.inl ⟨_, q1292⟩)) dX16_count_65 (Or.inl rfl) (w32_R _) ty_int ?_
    refine r_iinc (j := 1) o dX16_count_68 rfl rfl [(0, vA (mg Γ) l0)] [0] rfl ⟨(Nat.ne_of_beq_eq_false rfl), (fun _ => (vA_cat (mg Γ) l0)), trivial⟩ ?_
    refine s_goto (tgt := 37) o dX16_count_71 (by decide) ?_
    refine r_to [(0, vA (mg Γ) l0), (1, vI (w32 (l1 + 1)))] [1, 0] rfl ?_
    exact s_back (w32_R _) rfl
noncomputable def c_X16_count_37 {A : Type} (k_74 : Mo CH A) (l0 : Int) (l1 : Int) : Mo CH A := Loop (fun x => c_X16_count_37b k_74 x.1 x.2) (l0, l1)
theorem sc_X16_count_37 {Γ : Gm} {ts : TS} {d : Nat} (o : Ok Γ "LazyForge$Function" cX16_count 2 (Option.none : Option Jvm.ClassFile.FieldType) (d + 3)) {A : Type} {K : A → CH → Prop} (k_74 : Mo CH A) (hk_74 : Sx Γ (fun h => (h, ts)) K 74 [] [] (k_74)) (l0 : Int) (l1 : Int) (hl1 : R32 l1) : Sx Γ (fun h => (h, ts)) K 37 [(0, vA (mg Γ) l0), (1, vI l1)] [] (c_X16_count_37 k_74 l0 l1) :=
  s_loop okc_X16_count_37 (lvc_X16_count_37 Γ) (fun x hx => sc_X16_count_37b o k_74 hk_74 x.1 x.2 hx) (x := (l0, l1)) hl1
noncomputable def c_X16_count (l0 : Int) : Mo CH Int :=
  c_X16_count_2
    (fun v1 => c_X16_count_37
    (pr 0) v1 0) l0 0
theorem sc_X16_count (g : gC) (d : Nat) (ts : TS) (l0 : Int) : SF g yX16_count (Cond.code yX16_count cX16_count 2 (Option.none : Option Jvm.ClassFile.FieldType)) (Option.none : Option Jvm.ClassFile.FieldType) (d + 3) [vA g l0] (fun h => (h, ts)) (c_X16_count l0) := by
  refine SF.of (lv := [(0, vA g l0)]) (by decide) (wt_A wt_0) rfl (by simp only [la_A, la_I, la_J, la_0]) (fun Γ hg hnm o => ?_)
  subst hg
  have o : Ok Γ "LazyForge$Function" cX16_count 2 (Option.none : Option Jvm.ClassFile.FieldType) (d + 3) := o
  unfold c_X16_count
  refine s_iconst o dX16_count_0 ?_
  refine r_istore_n o dX16_count_1 rfl rfl ⟨(Nat.ne_of_beq_eq_false rfl), (fun _ => (vA_cat (mg Γ) l0)), trivial⟩ ?_
  refine r_to [(0, vA (mg Γ) l0), (1, vI 0)] [1, 0] rfl ?_
  refine sc_X16_count_2 o _ ?_ l0 0 (r32 rfl)
  · intro v1
    refine s_iconst o dX16_count_35 ?_
    refine r_istore_n o dX16_count_36 rfl rfl ⟨(Nat.ne_of_beq_eq_false rfl), (fun _ => (vA_cat (mg Γ) v1)), trivial⟩ ?_
    refine r_to [(0, vA (mg Γ) v1), (1, vI 0)] [1, 0] rfl ?_
    refine sc_X16_count_37 o _ ?_ v1 0 (r32 rfl)
    · exact s_vret o rfl dX16_count_74 (fun _ hh => hh)
theorem dX16_local_0 : decode cX16_local 0 = .ok (.new 7, 3) := by decide +kernel
theorem dX16_local_3 : decode cX16_local 3 = .ok (.dup, 1) := by decide +kernel
theorem dX16_local_4 : decode cX16_local 4 = .ok (.aload_n 0, 1) := by decide +kernel
theorem dX16_local_5 : decode cX16_local 5 = .ok (.invokespecial 50, 3) := by decide +kernel
theorem dX16_local_8 : decode cX16_local 8 = .ok (.astore_n 1, 1) := by decide +kernel
theorem dX16_local_9 : decode cX16_local 9 = .ok (.aload_n 0, 1) := by decide +kernel
theorem dX16_local_10 : decode cX16_local 10 = .ok (.getfield 22, 3) := by decide +kernel
theorem dX16_local_13 : decode cX16_local 13 = .ok (.aload_n 1, 1) := by decide +kernel
theorem dX16_local_14 : decode cX16_local 14 = .ok (.invokevirtual 53, 3) := by decide +kernel
theorem dX16_local_17 : decode cX16_local 17 = .ok (.pop, 1) := by decide +kernel
theorem dX16_local_18 : decode cX16_local 18 = .ok (.aload_n 1, 1) := by decide +kernel
theorem dX16_local_19 : decode cX16_local 19 = .ok (.areturn, 1) := by decide +kernel
theorem mw_X16_local : MW yX16_local (Cond.code yX16_local cX16_local 2 (Option.some (Jvm.ClassFile.FieldType.object "LazyForge$Variable"))) cX16_local 2 (Option.some (Jvm.ClassFile.FieldType.object "LazyForge$Variable")) 0 := ⟨rfl, ⟨(lw_all_tbl q1314), rfl, (lw_all_tbl q193)⟩, rfl, ⟨by decide, by decide⟩, by decide +kernel⟩
noncomputable def c_X16_local (l0 : Int) : Mo CH Int :=
  bnd (newo 17) fun v1 =>
  bnd (c_X17_init v1 l0) fun _ =>
  bnd (gf [116] 5 l0) fun v2 =>
  bnd (isk 127 v2) fun _ =>
  bnd (c_J13_add v2 v1) fun v3 =>
  pr v1
theorem sc_X16_local (g : gC) (d : Nat) (ts : TS) (l0 : Int) : SF g yX16_local (Cond.code yX16_local cX16_local 2 (Option.some (Jvm.ClassFile.FieldType.object "LazyForge$Variable"))) (Option.some (Jvm.ClassFile.FieldType.object "LazyForge$Variable")) (d + 7) [vA g l0] (fun h => (h, ts)) (c_X16_local l0) := by
  refine SF.of (lv := [(0, vA g l0)]) (by decide) (wt_A wt_0) rfl (by simp only [la_A, la_I, la_J, la_0]) (fun Γ hg hnm o => ?_)
  subst hg
  have o : Ok Γ "LazyForge$Function" cX16_local 2 (Option.some (Jvm.ClassFile.FieldType.object "LazyForge$Variable")) (d + 7) := o
  unfold c_X16_local
  refine s_new o mk_17 (lw_all_tbl q1141) dX16_local_0 (fun v1 hv1 => ?_)
  refine s_dup o dX16_local_3 (vA_cat (mg Γ) v1) ?_
  refine s_aload_n o dX16_local_4 rfl 0 rfl ?_
  refine s_ci (d := d + 6) (As := [vA (mg Γ) l0]) (st := [vA (mg Γ) v1]) o (sc_X17_init (mg Γ) (d + 5) ts v1 l0 hv1) mw_X17_init rfl (Or.inl (lw_all_tbl q1315)) (lw_all_tbl q1284) rfl hv1 (wt_A wt_0) rfl dX16_local_5 rfl (fun _ => ?_)
  refine r_astore_n o dX16_local_8 rfl rfl ⟨(Nat.ne_of_beq_eq_false rfl), (fun _ => (vA_cat (mg Γ) l0)), trivial⟩ ?_
  refine s_aload_n o dX16_local_9 rfl 1 rfl ?_
  refine r_getf (vA (mg Γ)) rfl o cf_X16_locals (Or.inl (lw_all_tbl q1157)) dX16_local_10 (fun v2 hv2 => ?_)
  refine s_aload_n o dX16_local_13 rfl 0 rfl ?_
  refine s_cvC (d := d + 6) (As := [vA (mg Γ) v1]) (st := []) (c := 27) o (sc_J13_add (mg Γ) d ts v2 v1) mw_J13_add rfl (Or.inl (lw_all_tbl q1316)) rfl (lw_all_tbl q1195) (lw_all_tbl q1194) wt_0 rfl dX16_local_14 rfl (rs := fun r => [vI r]) (fun _ => rfl) (fun v3 hv3 => ?_)
  refine s_pop o dX16_local_17 rfl ?_
  refine s_aload_n o dX16_local_18 rfl 0 rfl ?_
  exact s_aret o rfl (Or.inl ⟨_, rfl⟩) dX16_local_19 (fun _ hh => hh)
theorem dJ11_init_0 : decode cJ11_init 0 = .ok (.aload_n 0, 1) := by decide +kernel
theorem dJ11_init_1 : decode cJ11_init 1 = .ok (.invokespecial 1, 3) := by decide +kernel
theorem dJ11_init_4 : decode cJ11_init 4 = .ok (.return_, 1) := by decide +kernel
theorem mw_J11_init : MW yJ11_init (Cond.code yJ11_init cJ11_init 1 (Option.none : Option Jvm.ClassFile.FieldType)) cJ11_init 1 (Option.none : Option Jvm.ClassFile.FieldType) 0 := ⟨rfl, ⟨(lw_all_tbl q1040), rfl, (lw_all_tbl q190)⟩, rfl, ⟨by decide, by decide⟩, by decide +kernel⟩
noncomputable def c_J11_init (l0 : Int) : Mo CH Int :=
  pr 0
theorem sc_J11_init (g : gC) (d : Nat) (ts : TS) (l0 : Int) (hl0 : 0 < l0) : SF g yJ11_init (Cond.code yJ11_init cJ11_init 1 (Option.none : Option Jvm.ClassFile.FieldType)) (Option.none : Option Jvm.ClassFile.FieldType) (d + 1) [vA g l0] (fun h => (h, ts)) (c_J11_init l0) := by
  refine SF.of (lv := [(0, vA g l0)]) (by decide) (wt_A wt_0) rfl (by simp only [la_A, la_I, la_J, la_0]) (fun Γ hg hnm o => ?_)
  subst hg
  have o : Ok Γ "java/util/AbstractCollection" cJ11_init 1 (Option.none : Option Jvm.ClassFile.FieldType) (d + 1) := o
  have hnm : (xMe (mx Γ)).name = "<init>" := hnm
  unfold c_J11_init
  refine s_aload_n o dJ11_init_0 rfl 0 rfl ?_
  refine s_obj (d := d + 0) o (lw_all_tbl q1041) hl0 wt_0 rfl dJ11_init_1 (lw_all_tbl q216) (lw_all_tbl q217) ?_
  exact s_vret o rfl dJ11_init_4 (fun _ hh => hh)
theorem dJ12_init_0 : decode cJ12_init 0 = .ok (.aload_n 0, 1) := by decide +kernel
theorem dJ12_init_1 : decode cJ12_init 1 = .ok (.invokespecial 1, 3) := by decide +kernel
theorem dJ12_init_4 : decode cJ12_init 4 = .ok (.aload_n 0, 1) := by decide +kernel
theorem dJ12_init_5 : decode cJ12_init 5 = .ok (.iconst 0, 1) := by decide +kernel
theorem dJ12_init_6 : decode cJ12_init 6 = .ok (.putfield 7, 3) := by decide +kernel
theorem dJ12_init_9 : decode cJ12_init 9 = .ok (.return_, 1) := by decide +kernel
theorem mw_J12_init : MW yJ12_init (Cond.code yJ12_init cJ12_init 1 (Option.none : Option Jvm.ClassFile.FieldType)) cJ12_init 1 (Option.none : Option Jvm.ClassFile.FieldType) 0 := ⟨rfl, ⟨(lw_all_tbl q1037), rfl, (lw_all_tbl q191)⟩, rfl, ⟨by decide, by decide⟩, by decide +kernel⟩
noncomputable def c_J12_init (l0 : Int) : Mo CH Int :=
  bnd (c_J11_init l0) fun _ =>
  bnd (pf [127] 0 l0 0) fun _ =>
  pr 0
theorem sc_J12_init (g : gC) (d : Nat) (ts : TS) (l0 : Int) (hl0 : 0 < l0) : SF g yJ12_init (Cond.code yJ12_init cJ12_init 1 (Option.none : Option Jvm.ClassFile.FieldType)) (Option.none : Option Jvm.ClassFile.FieldType) (d + 2) [vA g l0] (fun h => (h, ts)) (c_J12_init l0) := by
  refine SF.of (lv := [(0, vA g l0)]) (by decide) (wt_A wt_0) rfl (by simp only [la_A, la_I, la_J, la_0]) (fun Γ hg hnm o => ?_)
  subst hg
  have o : Ok Γ "java/util/AbstractList" cJ12_init 1 (Option.none : Option Jvm.ClassFile.FieldType) (d + 2) := o
  have hnm : (xMe (mx Γ)).name = "<init>" := hnm
  unfold c_J12_init
  refine s_aload_n o dJ12_init_0 rfl 0 rfl ?_
  refine s_ci (d := d + 1) (As := []) (st := []) o (sc_J11_init (mg Γ) d ts l0 hl0) mw_J11_init rfl (Or.inl (lw_all_tbl q1038)) (lw_all_tbl q1039) rfl hl0 wt_0 rfl dJ12_init_1 rfl (fun _ => ?_)
  refine s_aload_n o dJ12_init_4 rfl 0 rfl ?_
  refine s_iconst o dJ12_init_5 ?_
  refine r_putf vI rfl o cf_J12_modCount (Or.inl (lw_all_tbl q1046)) dJ12_init_6 (Or.inl rfl) (r32 rfl) ty_int ?_
  exact s_vret o rfl dJ12_init_9 (fun _ hh => hh)
theorem dJ13_init_0 : decode cJ13_init 0 = .ok (.aload_n 0, 1) := by decide +kernel
theorem dJ13_init_1 : decode cJ13_init 1 = .ok (.invokespecial 1, 3) := by decide +kernel
theorem dJ13_init_4 : decode cJ13_init 4 = .ok (.aload_n 0, 1) := by decide +kernel
theorem dJ13_init_5 : decode cJ13_init 5 = .ok (.getstatic 39, 3) := by decide +kernel
theorem dJ13_init_8 : decode cJ13_init 8 = .ok (.putfield 9, 3) := by decide +kernel
theorem dJ13_init_11 : decode cJ13_init 11 = .ok (.return_, 1) := by decide +kernel
theorem mw_J13_init : MW yJ13_init (Cond.code yJ13_init cJ13_init 1 (Option.none : Option Jvm.ClassFile.FieldType)) cJ13_init 1 (Option.none : Option Jvm.ClassFile.FieldType) 0 := ⟨rfl, ⟨(lw_all_tbl q1034), rfl, (lw_all_tbl q192)⟩, rfl, ⟨by decide, by decide⟩, by decide +kernel⟩
noncomputable def c_J13_init (l0 : Int) : Mo CH Int :=
  bnd (c_J12_init l0) fun _ =>
  bnd (pf [127] 1 l0 (-200)) fun _ =>
  pr 0
theorem sc_J13_init (g : gC) (d : Nat) (ts : TS) (l0 : Int) (hl0 : 0 < l0) : SF g yJ13_init (Cond.code yJ13_init cJ13_init 1 (Option.none : Option Jvm.ClassFile.FieldType)) (Option.none : Option Jvm.ClassFile.FieldType) (d + 3) [vA g l0] (fun h => (h, ts)) (c_J13_init l0) := by
  refine SF.of (lv := [(0, vA g l0)]) (by decide) (wt_A wt_0) rfl (by simp only [la_A, la_I, la_J, la_0]) (fun Γ hg hnm o => ?_)
  subst hg
  have o : Ok Γ "java/util/ArrayList" cJ13_init 1 (Option.none : Option Jvm.ClassFile.FieldType) (d + 3) := o
  have hnm : (xMe (mx Γ)).name = "<init>" := hnm
  unfold c_J13_init
  refine s_aload_n o dJ13_init_0 rfl 0 rfl ?_
  refine s_ci (d := d + 2) (As := []) (st := []) o (sc_J12_init (mg Γ) d ts l0 hl0) mw_J12_init rfl (Or.inl (lw_all_tbl q1035)) (lw_all_tbl q1036) rfl hl0 wt_0 rfl dJ13_init_1 rfl (fun _ => ?_)
  refine s_aload_n o dJ13_init_4 rfl 0 rfl ?_
  refine s_gsE o (lw_all_tbl q1042) dJ13_init_5 ?_
  refine r_putf (vA (mg Γ)) rfl o cf_J13_elementData (Or.inl (lw_all_tbl q1044)) dJ13_init_8 (Or.inl rfl) trivial (ty_array _) ?_
  exact s_vret o rfl dJ13_init_11 (fun _ hh => hh)
theorem dX16_init_0 : decode cX16_init 0 = .ok (.aload_n 0, 1) := by decide +kernel
theorem dX16_init_1 : decode cX16_init 1 = .ok (.invokespecial 1, 3) := by decide +kernel
theorem dX16_init_4 : decode cX16_init 4 = .ok (.aload_n 0, 1) := by decide +kernel
theorem dX16_init_5 : decode cX16_init 5 = .ok (.iconst 0, 1) := by decide +kernel
theorem dX16_init_6 : decode cX16_init 6 = .ok (.anewarray 7, 3) := by decide +kernel
theorem dX16_init_9 : decode cX16_init 9 = .ok (.putfield 9, 3) := by decide +kernel
theorem dX16_init_12 : decode cX16_init 12 = .ok (.aload_n 0, 1) := by decide +kernel
theorem dX16_init_13 : decode cX16_init 13 = .ok (.new 15, 3) := by decide +kernel
theorem dX16_init_16 : decode cX16_init 16 = .ok (.dup, 1) := by decide +kernel
theorem dX16_init_17 : decode cX16_init 17 = .ok (.invokespecial 17, 3) := by decide +kernel
theorem dX16_init_20 : decode cX16_init 20 = .ok (.putfield 18, 3) := by decide +kernel
theorem dX16_init_23 : decode cX16_init 23 = .ok (.aload_n 0, 1) := by decide +kernel
theorem dX16_init_24 : decode cX16_init 24 = .ok (.new 15, 3) := by decide +kernel
theorem dX16_init_27 : decode cX16_init 27 = .ok (.dup, 1) := by decide +kernel
theorem dX16_init_28 : decode cX16_init 28 = .ok (.invokespecial 17, 3) := by decide +kernel
theorem dX16_init_31 : decode cX16_init 31 = .ok (.putfield 22, 3) := by decide +kernel
theorem dX16_init_34 : decode cX16_init 34 = .ok (.aload_n 0, 1) := by decide +kernel
theorem dX16_init_35 : decode cX16_init 35 = .ok (.iload_n 1, 1) := by decide +kernel
theorem dX16_init_36 : decode cX16_init 36 = .ok (.putfield 25, 3) := by decide +kernel
theorem dX16_init_39 : decode cX16_init 39 = .ok (.aload_n 0, 1) := by decide +kernel
theorem dX16_init_40 : decode cX16_init 40 = .ok (.iload_n 2, 1) := by decide +kernel
theorem dX16_init_41 : decode cX16_init 41 = .ok (.putfield 29, 3) := by decide +kernel
theorem dX16_init_44 : decode cX16_init 44 = .ok (.aload_n 0, 1) := by decide +kernel
theorem dX16_init_45 : decode cX16_init 45 = .ok (.aload_n 3, 1) := by decide +kernel
theorem dX16_init_46 : decode cX16_init 46 = .ok (.putfield 32, 3) := by decide +kernel
theorem dX16_init_49 : decode cX16_init 49 = .ok (.return_, 1) := by decide +kernel
theorem mw_X16_init : MW yX16_init (Cond.code yX16_init cX16_init 4 (Option.none : Option Jvm.ClassFile.FieldType)) cX16_init 4 (Option.none : Option Jvm.ClassFile.FieldType) 3 := ⟨rfl, ⟨(lw_all_tbl q1139), rfl, (lw_all_tbl q193)⟩, rfl, ⟨by decide, by decide⟩, by decide +kernel⟩
noncomputable def c_X16_init (l0 : Int) (l1 : Int) (l2 : Int) (l3 : Int) : Mo CH Int :=
  bnd (newa 7 0) fun v1 =>
  bnd (pf [116] 3 l0 v1) fun _ =>
  bnd (newo 27) fun v2 =>
  bnd (c_J13_init v2) fun _ =>
  bnd (pf [116] 4 l0 v2) fun _ =>
  bnd (newo 27) fun v3 =>
  bnd (c_J13_init v3) fun _ =>
  bnd (pf [116] 5 l0 v3) fun _ =>
  bnd (pf [116] 0 l0 l1) fun _ =>
  bnd (pf [116] 1 l0 l2) fun _ =>
  bnd (pf [116] 2 l0 l3) fun _ =>
  pr 0
theorem sc_X16_init (g : gC) (d : Nat) (ts : TS) (l0 : Int) (l1 : Int) (l2 : Int) (l3 : Int) (hl0 : 0 < l0) (hl1 : R32 l1) (hl2 : R32 l2) : SF g yX16_init (Cond.code yX16_init cX16_init 4 (Option.none : Option Jvm.ClassFile.FieldType)) (Option.none : Option Jvm.ClassFile.FieldType) (d + 4) [vA g l0, vI l1, vI l2, vA g l3] (fun h => (h, ts)) (c_X16_init l0 l1 l2 l3) := by
  refine SF.of (lv := [(0, vA g l0), (1, vI l1), (2, vI l2), (3, vA g l3)]) (by decide) (wt_A (wt_I (wt_I (wt_A wt_0)))) rfl (by simp only [la_A, la_I, la_J, la_0]) (fun Γ hg hnm o => ?_)
  subst hg
  have o : Ok Γ "LazyForge$Function" cX16_init 4 (Option.none : Option Jvm.ClassFile.FieldType) (d + 4) := o
  have hnm : (xMe (mx Γ)).name = "<init>" := hnm
  unfold c_X16_init
  refine s_aload_n o dX16_init_0 rfl 0 rfl ?_
  refine s_obj (d := d + 3) o (lw_all_tbl q1140) hl0 wt_0 rfl dX16_init_1 (lw_all_tbl q216) (lw_all_tbl q217) ?_
  refine s_aload_n o dX16_init_4 rfl 0 rfl ?_
  refine s_iconst o dX16_init_5 ?_
  refine s_anew (kd := 7) o (by decide) (Or.inl rfl) (lw_all_tbl q1141) ao_7 (r32 rfl) dX16_init_6 (fun v1 hv1 => ?_)
  refine r_putf (vA (mg Γ)) rfl o cf_X16_own (Or.inl (lw_all_tbl q1152)) dX16_init_9 (Or.inl rfl) trivial (ty_array _) ?_
  refine s_aload_n o dX16_init_12 rfl 0 rfl ?_
  refine s_new o mk_27 (lw_all_tbl q1142) dX16_init_13 (fun v2 hv2 => ?_)
  refine s_dup o dX16_init_16 (vA_cat (mg Γ) v2) ?_
  refine s_ci (d := d + 3) (As := []) (st := [vA (mg Γ) v2, vA (mg Γ) l0]) o (sc_J13_init (mg Γ) d ts v2 hv2) mw_J13_init rfl (Or.inl (lw_all_tbl q1143)) (lw_all_tbl q1033) rfl hv2 (wt_A (wt_A wt_0)) rfl dX16_init_17 rfl (fun _ => ?_)
  refine r_putf (vA (mg Γ)) rfl o cf_X16_free (Or.inl (lw_all_tbl q1154)) dX16_init_20 (Or.inr ⟨hnm, rfl, (lw_all_tbl q1154)⟩) trivial (ty_object _) ?_
  refine s_aload_n o dX16_init_23 rfl 0 rfl ?_
  refine s_new o mk_27 (lw_all_tbl q1142) dX16_init_24 (fun v3 hv3 => ?_)
  refine s_dup o dX16_init_27 (vA_cat (mg Γ) v3) ?_
  refine s_ci (d := d + 3) (As := []) (st := [vA (mg Γ) v3, vA (mg Γ) l0]) o (sc_J13_init (mg Γ) d ts v3 hv3) mw_J13_init rfl (Or.inl (lw_all_tbl q1143)) (lw_all_tbl q1033) rfl hv3 (wt_A (wt_A wt_0)) rfl dX16_init_28 rfl (fun _ => ?_)
  refine r_putf (vA (mg Γ)) rfl o cf_X16_locals (Or.inl (lw_all_tbl q1157)) dX16_init_31 (Or.inr ⟨hnm, rfl, (lw_all_tbl q1157)⟩) trivial (ty_object _) ?_
  refine s_aload_n o dX16_init_34 rfl 0 rfl ?_
  refine s_iload_n o dX16_init_35 rfl 1 rfl ?_
  refine r_putf vI rfl o cf_X16_number (Or.inl (lw_all_tbl q1144)) dX16_init_36 (Or.inr ⟨hnm, rfl, (lw_all_tbl q1144)⟩) hl1 ty_int ?_
  refine s_aload_n o dX16_init_39 rfl 0 rfl ?_
  refine s_iload_n o dX16_init_40 rfl 2 rfl ?_
  refine r_putf vI rfl o cf_X16_place (Or.inl (lw_all_tbl q1148)) dX16_init_41 (Or.inr ⟨hnm, rfl, (lw_all_tbl q1148)⟩) hl2 ty_int ?_
  refine s_aload_n o dX16_init_44 rfl 0 rfl ?_
  refine s_aload_n o dX16_init_45 rfl 3 rfl ?_
  refine r_putf (vA (mg Γ)) rfl o cf_X16_around (Or.inl (lw_all_tbl q1150)) dX16_init_46 (Or.inr ⟨hnm, rfl, (lw_all_tbl q1150)⟩) trivial (ty_object _) ?_
  exact s_vret o rfl dX16_init_49 (fun _ hh => hh)
theorem dX15_init_0 : decode cX15_init 0 = .ok (.aload_n 0, 1) := by decide +kernel
theorem dX15_init_1 : decode cX15_init 1 = .ok (.invokespecial 3, 3) := by decide +kernel
theorem dX15_init_4 : decode cX15_init 4 = .ok (.aload_n 0, 1) := by decide +kernel
theorem dX15_init_5 : decode cX15_init 5 = .ok (.new 9, 3) := by decide +kernel
theorem dX15_init_8 : decode cX15_init 8 = .ok (.dup, 1) := by decide +kernel
theorem dX15_init_9 : decode cX15_init 9 = .ok (.invokespecial 11, 3) := by decide +kernel
theorem dX15_init_12 : decode cX15_init 12 = .ok (.putfield 12, 3) := by decide +kernel
theorem dX15_init_15 : decode cX15_init 15 = .ok (.aload_n 0, 1) := by decide +kernel
theorem dX15_init_16 : decode cX15_init 16 = .ok (.new 9, 3) := by decide +kernel
theorem dX15_init_19 : decode cX15_init 19 = .ok (.dup, 1) := by decide +kernel
theorem dX15_init_20 : decode cX15_init 20 = .ok (.invokespecial 11, 3) := by decide +kernel
theorem dX15_init_23 : decode cX15_init 23 = .ok (.putfield 18, 3) := by decide +kernel
theorem dX15_init_26 : decode cX15_init 26 = .ok (.aload_n 0, 1) := by decide +kernel
theorem dX15_init_27 : decode cX15_init 27 = .ok (.bipush 41, 2) := by decide +kernel
theorem dX15_init_29 : decode cX15_init 29 = .ok (.newarray .boolean, 2) := by decide +kernel
theorem dX15_init_31 : decode cX15_init 31 = .ok (.putfield 21, 3) := by decide +kernel
theorem dX15_init_34 : decode cX15_init 34 = .ok (.aload_n 0, 1) := by decide +kernel
theorem dX15_init_35 : decode cX15_init 35 = .ok (.iconst (-1), 1) := by decide +kernel
theorem dX15_init_36 : decode cX15_init 36 = .ok (.putfield 25, 3) := by decide +kernel
theorem dX15_init_39 : decode cX15_init 39 = .ok (.return_, 1) := by decide +kernel
theorem mw_X15_init : MW yX15_init (Cond.code yX15_init cX15_init 1 (Option.none : Option Jvm.ClassFile.FieldType)) cX15_init 1 (Option.none : Option Jvm.ClassFile.FieldType) 0 := ⟨rfl, ⟨(lw_all_tbl q1028), rfl, (lw_all_tbl q189)⟩, rfl, ⟨by decide, by decide⟩, by decide +kernel⟩
noncomputable def c_X15_init (l0 : Int) : Mo CH Int :=
  bnd (newo 27) fun v1 =>
  bnd (c_J13_init v1) fun _ =>
  bnd (pf [115] 0 l0 v1) fun _ =>
  bnd (newo 27) fun v2 =>
  bnd (c_J13_init v2) fun _ =>
  bnd (pf [115] 1 l0 v2) fun _ =>
  bnd (newa 3 41) fun v3 =>
  bnd (pf [115] 2 l0 v3) fun _ =>
  bnd (pf [115] 3 l0 (-1)) fun _ =>
  pr 0
theorem sc_X15_init (g : gC) (d : Nat) (ts : TS) (l0 : Int) (hl0 : 0 < l0) : SF g yX15_init (Cond.code yX15_init cX15_init 1 (Option.none : Option Jvm.ClassFile.FieldType)) (Option.none : Option Jvm.ClassFile.FieldType) (d + 4) [vA g l0] (fun h => (h, ts)) (c_X15_init l0) := by
  refine SF.of (lv := [(0, vA g l0)]) (by decide) (wt_A wt_0) rfl (by simp only [la_A, la_I, la_J, la_0]) (fun Γ hg hnm o => ?_)
  subst hg
  have o : Ok Γ "LazyForge$Program" cX15_init 1 (Option.none : Option Jvm.ClassFile.FieldType) (d + 4) := o
  have hnm : (xMe (mx Γ)).name = "<init>" := hnm
  unfold c_X15_init
  refine s_aload_n o dX15_init_0 rfl 0 rfl ?_
  refine s_obj (d := d + 3) o (lw_all_tbl q1029) hl0 wt_0 rfl dX15_init_1 (lw_all_tbl q216) (lw_all_tbl q217) ?_
  refine s_aload_n o dX15_init_4 rfl 0 rfl ?_
  refine s_new o mk_27 (lw_all_tbl q1030) dX15_init_5 (fun v1 hv1 => ?_)
  refine s_dup o dX15_init_8 (vA_cat (mg Γ) v1) ?_
  refine s_ci (d := d + 3) (As := []) (st := [vA (mg Γ) v1, vA (mg Γ) l0]) o (sc_J13_init (mg Γ) d ts v1 hv1) mw_J13_init rfl (Or.inl (lw_all_tbl q1032)) (lw_all_tbl q1033) rfl hv1 (wt_A (wt_A wt_0)) rfl dX15_init_9 rfl (fun _ => ?_)
  refine r_putf (vA (mg Γ)) rfl o cf_X15_functions (Or.inl (lw_all_tbl q1056)) dX15_init_12 (Or.inr ⟨hnm, rfl, (lw_all_tbl q1056)⟩) trivial (ty_object _) ?_
  refine s_aload_n o dX15_init_15 rfl 0 rfl ?_
  refine s_new o mk_27 (lw_all_tbl q1030) dX15_init_16 (fun v2 hv2 => ?_)
  refine s_dup o dX15_init_19 (vA_cat (mg Γ) v2) ?_
  refine s_ci (d := d + 3) (As := []) (st := [vA (mg Γ) v2, vA (mg Γ) l0]) o (sc_J13_init (mg Γ) d ts v2 hv2) mw_J13_init rfl (Or.inl (lw_all_tbl q1032)) (lw_all_tbl q1033) rfl hv2 (wt_A (wt_A wt_0)) rfl dX15_init_20 rfl (fun _ => ?_)
  refine r_putf (vA (mg Γ)) rfl o cf_X15_suspended (Or.inl (lw_all_tbl q1061)) dX15_init_23 (Or.inr ⟨hnm, rfl, (lw_all_tbl q1061)⟩) trivial (ty_object _) ?_
  refine s_aload_n o dX15_init_26 rfl 0 rfl ?_
  refine s_bipush o dX15_init_27 rfl ?_
  refine s_newa (kd := 3) o (by decide) rfl (by decide) (o.ra (by decide)) (lw_all_tbl q1099) (r32 rfl) dX15_init_29 (fun v3 hv3 => ?_)
  refine r_putf (vA (mg Γ)) rfl o cf_X15_some (Or.inl (lw_all_tbl q1064)) dX15_init_31 (Or.inr ⟨hnm, rfl, (lw_all_tbl q1064)⟩) trivial (ty_array _) ?_
  refine s_aload_n o dX15_init_34 rfl 0 rfl ?_
  refine s_iconst o dX15_init_35 ?_
  refine r_putf vI rfl o cf_X15_main (Or.inl (lw_all_tbl q1068)) dX15_init_36 (Or.inl rfl) (r32 rfl) ty_int ?_
  exact s_vret o rfl dX15_init_39 (fun _ hh => hh)
theorem dX14_fail_0 : decode cX14_fail 0 = .ok (.aload_n 0, 1) := by decide +kernel
theorem dX14_fail_1 : decode cX14_fail 1 = .ok (.getfield 52, 3) := by decide +kernel
theorem dX14_fail_4 : decode cX14_fail 4 = .ok (.ifCond .ne 13, 3) := by decide +kernel
theorem dX14_fail_7 : decode cX14_fail 7 = .ok (.aload_n 0, 1) := by decide +kernel
theorem dX14_fail_8 : decode cX14_fail 8 = .ok (.iload_n 1, 1) := by decide +kernel
theorem dX14_fail_9 : decode cX14_fail 9 = .ok (.putfield 52, 3) := by decide +kernel
theorem dX14_fail_12 : decode cX14_fail 12 = .ok (.aload_n 0, 1) := by decide +kernel
theorem dX14_fail_13 : decode cX14_fail 13 = .ok (.iload_n 2, 1) := by decide +kernel
theorem dX14_fail_14 : decode cX14_fail 14 = .ok (.putfield 35, 3) := by decide +kernel
theorem dX14_fail_17 : decode cX14_fail 17 = .ok (.aconst_null, 1) := by decide +kernel
theorem dX14_fail_18 : decode cX14_fail 18 = .ok (.areturn, 1) := by decide +kernel
theorem mw_X14_fail : MW yX14_fail (Cond.code yX14_fail cX14_fail 3 (Option.some (Jvm.ClassFile.FieldType.object "LazyForge$Part"))) cX14_fail 3 (Option.some (Jvm.ClassFile.FieldType.object "LazyForge$Part")) 2 := ⟨rfl, ⟨(lw_all_tbl q1587), rfl, (lw_all_tbl q188)⟩, rfl, ⟨by decide, by decide⟩, by decide +kernel⟩
noncomputable def c_X14_fail (l0 : Int) (l1 : Int) (l2 : Int) : Mo CH Int :=
  bnd (gf [114] 6 l0) fun v1 =>
  if ¬ v1 = 0 then
    pr 0
  else
    bnd (pf [114] 6 l0 l1) fun _ =>
    bnd (pf [114] 7 l0 l2) fun _ =>
    pr 0
theorem sc_X14_fail (g : gC) (d : Nat) (ts : TS) (l0 : Int) (l1 : Int) (l2 : Int) (hl1 : R32 l1) (hl2 : R32 l2) : SF g yX14_fail (Cond.code yX14_fail cX14_fail 3 (Option.some (Jvm.ClassFile.FieldType.object "LazyForge$Part"))) (Option.some (Jvm.ClassFile.FieldType.object "LazyForge$Part")) (d + 0) [vA g l0, vI l1, vI l2] (fun h => (h, ts)) (c_X14_fail l0 l1 l2) := by
  refine SF.of (lv := [(0, vA g l0), (1, vI l1), (2, vI l2)]) (by decide) (wt_A (wt_I (wt_I wt_0))) rfl (by simp only [la_A, la_I, la_J, la_0]) (fun Γ hg hnm o => ?_)
  subst hg
  have o : Ok Γ "LazyForge$Resolver" cX14_fail 3 (Option.some (Jvm.ClassFile.FieldType.object "LazyForge$Part")) (d + 0) := o
  unfold c_X14_fail
  refine s_aload_n o dX14_fail_0 rfl 0 rfl ?_
  refine r_getf vI rfl o cf_X14_kind (Or.inl (lw_all_tbl q1110)) dX14_fail_1 (fun v1 hv1 => ?_)
  refine s_if_ne (tgt := 17) o dX14_fail_4 (by decide) hv1 ?_ ?_
  · refine s_null o dX14_fail_17 ?_
    exact s_aret o rfl (Or.inl ⟨_, rfl⟩) dX14_fail_18 (fun _ hh => hh)
  · refine s_aload_n o dX14_fail_7 rfl 0 rfl ?_
    refine s_iload_n o dX14_fail_8 rfl 1 rfl ?_
    refine r_putf vI rfl o cf_X14_kind (Or.inl (lw_all_tbl q1110)) dX14_fail_9 (Or.inl rfl) hl1 ty_int ?_
    refine s_aload_n o dX14_fail_12 rfl 0 rfl ?_
    refine s_iload_n o dX14_fail_13 rfl 2 rfl ?_
    refine r_putf vI rfl o cf_X14_place (Or.inl (lw_all_tbl q1112)) dX14_fail_14 (Or.inl rfl) hl2 ty_int ?_
    refine s_null o dX14_fail_17 ?_
    exact s_aret o rfl (Or.inl ⟨_, rfl⟩) dX14_fail_18 (fun _ hh => hh)
theorem dJ13_contains_0 : decode cJ13_contains 0 = .ok (.aload_n 0, 1) := by decide +kernel
theorem dJ13_contains_1 : decode cJ13_contains 1 = .ok (.aload_n 1, 1) := by decide +kernel
theorem dJ13_contains_2 : decode cJ13_contains 2 = .ok (.invokevirtual 85, 3) := by decide +kernel
theorem dJ13_contains_5 : decode cJ13_contains 5 = .ok (.ifCond .lt 7, 3) := by decide +kernel
theorem dJ13_contains_8 : decode cJ13_contains 8 = .ok (.iconst 1, 1) := by decide +kernel
theorem dJ13_contains_9 : decode cJ13_contains 9 = .ok (.goto 4, 3) := by decide +kernel
theorem dJ13_contains_12 : decode cJ13_contains 12 = .ok (.iconst 0, 1) := by decide +kernel
theorem dJ13_contains_13 : decode cJ13_contains 13 = .ok (.ireturn, 1) := by decide +kernel
theorem mw_J13_contains : MW yJ13_contains (Cond.code yJ13_contains cJ13_contains 2 (Option.some Jvm.ClassFile.FieldType.boolean)) cJ13_contains 2 (Option.some Jvm.ClassFile.FieldType.boolean) 1 := ⟨rfl, ⟨(lw_all_tbl q1388), rfl, (lw_all_tbl q192)⟩, rfl, ⟨by decide, by decide⟩, by decide +kernel⟩
noncomputable def c_J13_contains (l0 : Int) (l1 : Int) : Mo CH Int :=
  bnd (isk 127 l0) fun _ =>
  bnd (c_J13_indexOf l0 l1) fun v1 =>
  if v1 < 0 then
    pr 0
  else
    pr 1
theorem sc_J13_contains (g : gC) (d : Nat) (ts : TS) (l0 : Int) (l1 : Int) : SF g yJ13_contains (Cond.code yJ13_contains cJ13_contains 2 (Option.some Jvm.ClassFile.FieldType.boolean)) (Option.some Jvm.ClassFile.FieldType.boolean) (d + 3) [vA g l0, vA g l1] (fun h => (h, ts)) (c_J13_contains l0 l1) := by
  refine SF.of (lv := [(0, vA g l0), (1, vA g l1)]) (by decide) (wt_A (wt_A wt_0)) rfl (by simp only [la_A, la_I, la_J, la_0]) (fun Γ hg hnm o => ?_)
  subst hg
  have o : Ok Γ "java/util/ArrayList" cJ13_contains 2 (Option.some Jvm.ClassFile.FieldType.boolean) (d + 3) := o
  unfold c_J13_contains
  refine s_aload_n o dJ13_contains_0 rfl 0 rfl ?_
  refine s_aload_n o dJ13_contains_1 rfl 1 rfl ?_
  refine s_cvC (d := d + 2) (As := [vA (mg Γ) l1]) (st := []) (c := 27) o (sc_J13_indexOf (mg Γ) d ts l0 l1) mw_J13_indexOf rfl (Or.inl (lw_all_tbl q1389)) rfl (lw_all_tbl q1391) (lw_all_tbl q1390) wt_0 rfl dJ13_contains_2 rfl (rs := fun r => [vI r]) (fun _ => rfl) (fun v1 hv1 => ?_)
  refine s_if_lt (tgt := 12) o dJ13_contains_5 (by decide) (hv1 _ rfl) ?_ ?_
  · refine s_iconst o dJ13_contains_12 ?_
    exact s_iret o rfl i_boolean (Or.inl rfl) dJ13_contains_13 (fun _ hh => hh)
  · refine s_iconst o dJ13_contains_8 ?_
    refine s_goto (tgt := 13) o dJ13_contains_9 (by decide) ?_
    exact s_iret o rfl i_boolean (Or.inr rfl) dJ13_contains_13 (fun _ hh => hh)
theorem dX14_use_0 : decode cX14_use 0 = .ok (.aload_n 2, 1) := by decide +kernel
theorem dX14_use_1 : decode cX14_use 1 = .ok (.astore_n 3, 1) := by decide +kernel
theorem dX14_use_2 : decode cX14_use 2 = .ok (.aload_n 3, 1) := by decide +kernel
theorem dX14_use_3 : decode cX14_use 3 = .ok (.aload_n 1, 1) := by decide +kernel
theorem dX14_use_4 : decode cX14_use 4 = .ok (.getfield 160, 3) := by decide +kernel
theorem dX14_use_7 : decode cX14_use 7 = .ok (.if_acmp .eq 31, 3) := by decide +kernel
theorem dX14_use_10 : decode cX14_use 10 = .ok (.aload_n 3, 1) := by decide +kernel
theorem dX14_use_11 : decode cX14_use 11 = .ok (.getfield 164, 3) := by decide +kernel
theorem dX14_use_14 : decode cX14_use 14 = .ok (.aload_n 1, 1) := by decide +kernel
theorem dX14_use_15 : decode cX14_use 15 = .ok (.invokevirtual 167, 3) := by decide +kernel
theorem dX14_use_18 : decode cX14_use 18 = .ok (.ifCond .ne 12, 3) := by decide +kernel
theorem dX14_use_21 : decode cX14_use 21 = .ok (.aload_n 3, 1) := by decide +kernel
theorem dX14_use_22 : decode cX14_use 22 = .ok (.getfield 164, 3) := by decide +kernel
theorem dX14_use_25 : decode cX14_use 25 = .ok (.aload_n 1, 1) := by decide +kernel
theorem dX14_use_26 : decode cX14_use 26 = .ok (.invokevirtual 71, 3) := by decide +kernel
theorem dX14_use_29 : decode cX14_use 29 = .ok (.pop, 1) := by decide +kernel
theorem dX14_use_30 : decode cX14_use 30 = .ok (.aload_n 3, 1) := by decide +kernel
theorem dX14_use_31 : decode cX14_use 31 = .ok (.getfield 170, 3) := by decide +kernel
theorem dX14_use_34 : decode cX14_use 34 = .ok (.astore_n 3, 1) := by decide +kernel
theorem dX14_use_35 : decode cX14_use 35 = .ok (.goto (-33), 3) := by decide +kernel
theorem dX14_use_38 : decode cX14_use 38 = .ok (.new 125, 3) := by decide +kernel
theorem dX14_use_41 : decode cX14_use 41 = .ok (.dup, 1) := by decide +kernel
theorem dX14_use_42 : decode cX14_use 42 = .ok (.aload_n 1, 1) := by decide +kernel
theorem dX14_use_43 : decode cX14_use 43 = .ok (.aload_n 2, 1) := by decide +kernel
theorem dX14_use_44 : decode cX14_use 44 = .ok (.invokespecial 173, 3) := by decide +kernel
theorem dX14_use_47 : decode cX14_use 47 = .ok (.astore_n 3, 1) := by decide +kernel
theorem dX14_use_48 : decode cX14_use 48 = .ok (.aload_n 0, 1) := by decide +kernel
theorem dX14_use_49 : decode cX14_use 49 = .ok (.getfield 31, 3) := by decide +kernel
theorem dX14_use_52 : decode cX14_use 52 = .ok (.aload_n 3, 1) := by decide +kernel
theorem dX14_use_53 : decode cX14_use 53 = .ok (.invokevirtual 71, 3) := by decide +kernel
theorem dX14_use_56 : decode cX14_use 56 = .ok (.pop, 1) := by decide +kernel
theorem dX14_use_57 : decode cX14_use 57 = .ok (.aload_n 3, 1) := by decide +kernel
theorem dX14_use_58 : decode cX14_use 58 = .ok (.areturn, 1) := by decide +kernel
theorem mw_X14_use : MW yX14_use (Cond.code yX14_use cX14_use 4 (Option.some (Jvm.ClassFile.FieldType.object "LazyForge$Use"))) cX14_use 4 (Option.some (Jvm.ClassFile.FieldType.object "LazyForge$Use")) 2 := ⟨rfl, ⟨(lw_all_tbl q1384), rfl, (lw_all_tbl q188)⟩, rfl, ⟨by decide, by decide⟩, by decide +kernel⟩
abbrev okc_X14_use_2 (x : Int × Int × Int × Int) : Prop := True
abbrev lvc_X14_use_2 (Γ : Gm) (x : Int × Int × Int × Int) : List (Nat × Value) := [(0, vA (mg Γ) x.1), (1, vA (mg Γ) x.2.1), (2, vA (mg Γ) x.2.2.1), (3, vA (mg Γ) x.2.2.2)]
noncomputable def c_X14_use_30 {A : Type} (k_38 : Int → Int → Int → Mo CH A) (l0 : Int) (l1 : Int) (l2 : Int) (l3 : Int) : Mo CH ((Int × Int × Int × Int) ⊕ A) :=
  bnd (gf [116] 2 l3) fun v1 =>
  pr (.inl (l0, l1, l2, v1))
theorem sc_X14_use_30 {Γ : Gm} {ts : TS} {d : Nat} (o : Ok Γ "LazyForge$Resolver" cX14_use 4 (Option.some (Jvm.ClassFile.FieldType.object "LazyForge$Use")) (d + 7)) {A : Type} {K : A → CH → Prop}  (k_38 : Int → Int → Int → Mo CH A) (hk_38 : ∀ (l0 : Int) (l1 : Int) (l2 : Int), Sx Γ (fun h => (h, ts)) K 38 [(0, vA (mg Γ) l0), (1, vA (mg Γ) l1), (2, vA (mg Γ) l2)] [] (k_38 l0 l1 l2)) (l0 : Int) (l1 : Int) (l2 : Int) (l3 : Int) : Sx Γ (fun h => (h, ts)) (KL Γ (fun h => (h, ts)) okc_X14_use_2 K 2 (lvc_X14_use_2 Γ) []) 30 [(0, vA (mg Γ) l0), (1, vA (mg Γ) l1), (2, vA (mg Γ) l2), (3, vA (mg Γ) l3)] [] (c_X14_use_30 k_38 l0 l1 l2 l3) := by
  unfold c_X14_use_30
  refine s_aload_n o dX14_use_30 rfl 3 rfl ?_
  refine r_getf (vA (mg Γ)) rfl o cf_X16_around (Or.inr (Or.inl ⟨_, q1151⟩)) dX14_use_31 (fun v1 hv1 => ?_)
  refine r_astore_nP o dX14_use_34 rfl rfl [(0, vA (mg Γ) l0), (1, vA (mg Γ) l1), (2, vA (mg Γ) l2)] [0, 1, 2] rfl ⟨(Nat.ne_of_beq_eq_false rfl), (fun _ => (vA_cat (mg Γ) l0)), ⟨(Nat.ne_of_beq_eq_false rfl), (fun _ => (vA_cat (mg Γ) l1)), ⟨(Nat.ne_of_beq_eq_false rfl), (fun _ => (vA_cat (mg Γ) l2)), trivial⟩⟩⟩ ?_
  refine s_goto (tgt := 2) o dX14_use_35 (by decide) ?_
  refine r_to [(0, vA (mg Γ) l0), (1, vA (mg Γ) l1), (2, vA (mg Γ) l2), (3, vA (mg Γ) v1)] [1, 2, 3, 0] rfl ?_
  exact s_back trivial rfl
noncomputable def c_X14_use_2b {A : Type} (k_38 : Int → Int → Int → Mo CH A) (l0 : Int) (l1 : Int) (l2 : Int) (l3 : Int) : Mo CH ((Int × Int × Int × Int) ⊕ A) :=
  bnd (gf [117] 0 l1) fun v1 =>
  ckr l3 v1 (if l3 = v1 then
    lo (k_38 l0 l1 l2)
  else
    bnd (gf [116] 4 l3) fun v2 =>
    bnd (isk 127 v2) fun _ =>
    bnd (c_J13_contains v2 l1) fun v3 =>
    if ¬ v3 = 0 then
      c_X14_use_30 k_38 l0 l1 l2 l3
    else
      bnd (gf [116] 4 l3) fun v4 =>
      bnd (isk 127 v4) fun _ =>
      bnd (c_J13_add v4 l1) fun v5 =>
      c_X14_use_30 k_38 l0 l1 l2 l3)
theorem sc_X14_use_2b {Γ : Gm} {ts : TS} {d : Nat} (o : Ok Γ "LazyForge$Resolver" cX14_use 4 (Option.some (Jvm.ClassFile.FieldType.object "LazyForge$Use")) (d + 7)) {A : Type} {K : A → CH → Prop} (k_38 : Int → Int → Int → Mo CH A) (hk_38 : ∀ (l0 : Int) (l1 : Int) (l2 : Int), Sx Γ (fun h => (h, ts)) K 38 [(0, vA (mg Γ) l0), (1, vA (mg Γ) l1), (2, vA (mg Γ) l2)] [] (k_38 l0 l1 l2)) (l0 : Int) (l1 : Int) (l2 : Int) (l3 : Int) : Sx Γ (fun h => (h, ts)) (KL Γ (fun h => (h, ts)) okc_X14_use_2 K 2 (lvc_X14_use_2 Γ) []) 2 [(0, vA (mg Γ) l0), (1, vA (mg Γ) l1), (2, vA (mg Γ) l2), (3, vA (mg Γ) l3)] [] (c_X14_use_2b k_38 l0 l1 l2 l3) := by
  unfold c_X14_use_2b
  refine s_aload_n o dX14_use_2 rfl 3 rfl ?_
  refine s_aload_n o dX14_use_3 rfl 1 rfl ?_
  refine r_getf (vA (mg Γ)) rfl o cf_X17_owner (Or.inr (Or.inl ⟨_, q1288⟩)) dX14_use_4 (fun v1 hv1 => ?_)
  refine s_acmp_eq (tgt := 38) o dX14_use_7 (by decide) ?_ ?_
  · refine r_to [(0, vA (mg Γ) l0), (1, vA (mg Γ) l1), (2, vA (mg Γ) l2)] [0, 1, 2] rfl ?_
    exact s_lo (hk_38 l0 l1 l2)
  · refine s_aload_n o dX14_use_10 rfl 3 rfl ?_
    refine r_getf (vA (mg Γ)) rfl o cf_X16_free (Or.inr (Or.inl ⟨_, q1155⟩)) dX14_use_11 (fun v2 hv2 => ?_)
    refine s_aload_n o dX14_use_14 rfl 1 rfl ?_
    refine s_cvC (d := d + 6) (As := [vA (mg Γ) l1]) (st := []) (c := 27) o (sc_J13_contains (mg Γ) (d + 3) ts v2 l1) mw_J13_contains rfl (Or.inl (lw_all_tbl q1385)) rfl (lw_all_tbl q1387) (lw_all_tbl q1386) wt_0 rfl dX14_use_15 rfl (rs := fun r => [vI r]) (fun _ => rfl) (fun v3 hv3 => ?_)
    refine s_if_ne (tgt := 30) o dX14_use_18 (by decide) (rZ (hv3 _ rfl)) ?_ ?_
    · exact sc_X14_use_30 o k_38 hk_38 l0 l1 l2 l3
    · refine s_aload_n o dX14_use_21 rfl 3 rfl ?_
      refine r_getf (vA (mg Γ)) rfl o cf_X16_free (Or.inr (Or.inl ⟨_, q1155⟩)) dX14_use_22 (fun v4 hv4 => ?_)
      refine s_aload_n o dX14_use_25 rfl 1 rfl ?_
      refine s_cvC (d := d + 6) (As := [vA (mg Γ) l1]) (st := []) (c := 27) o (sc_J13_add (mg Γ) d ts v4 l1) mw_J13_add rfl (Or.inl (lw_all_tbl q1193)) rfl (lw_all_tbl q1195) (lw_all_tbl q1194) wt_0 rfl dX14_use_26 rfl (rs := fun r => [vI r]) (fun _ => rfl) (fun v5 hv5 => ?_)
      refine s_pop o dX14_use_29 rfl ?_
      exact sc_X14_use_30 o k_38 hk_38 l0 l1 l2 l3
noncomputable def c_X14_use_2 {A : Type} (k_38 : Int → Int → Int → Mo CH A) (l0 : Int) (l1 : Int) (l2 : Int) (l3 : Int) : Mo CH A := Loop (fun x => c_X14_use_2b k_38 x.1 x.2.1 x.2.2.1 x.2.2.2) (l0, l1, l2, l3)
theorem sc_X14_use_2 {Γ : Gm} {ts : TS} {d : Nat} (o : Ok Γ "LazyForge$Resolver" cX14_use 4 (Option.some (Jvm.ClassFile.FieldType.object "LazyForge$Use")) (d + 7)) {A : Type} {K : A → CH → Prop} (k_38 : Int → Int → Int → Mo CH A) (hk_38 : ∀ (l0 : Int) (l1 : Int) (l2 : Int), Sx Γ (fun h => (h, ts)) K 38 [(0, vA (mg Γ) l0), (1, vA (mg Γ) l1), (2, vA (mg Γ) l2)] [] (k_38 l0 l1 l2)) (l0 : Int) (l1 : Int) (l2 : Int) (l3 : Int) : Sx Γ (fun h => (h, ts)) K 2 [(0, vA (mg Γ) l0), (1, vA (mg Γ) l1), (2, vA (mg Γ) l2), (3, vA (mg Γ) l3)] [] (c_X14_use_2 k_38 l0 l1 l2 l3) :=
  s_loop okc_X14_use_2 (lvc_X14_use_2 Γ) (fun x hx => sc_X14_use_2b o k_38 hk_38 x.1 x.2.1 x.2.2.1 x.2.2.2) (x := (l0, l1, l2, l3)) trivial
noncomputable def c_X14_use (l0 : Int) (l1 : Int) (l2 : Int) : Mo CH Int :=
  c_X14_use_2
    (fun v1 v2 v3 => bnd (newo 20) fun v4 =>
  bnd (c_X20_init v4 v2 v3) fun _ =>
  bnd (gf [114] 5 v1) fun v5 =>
  bnd (isk 127 v5) fun _ =>
  bnd (c_J13_add v5 v4) fun v6 =>
  pr v4) l0 l1 l2 l2
theorem sc_X14_use (g : gC) (d : Nat) (ts : TS) (l0 : Int) (l1 : Int) (l2 : Int) : SF g yX14_use (Cond.code yX14_use cX14_use 4 (Option.some (Jvm.ClassFile.FieldType.object "LazyForge$Use"))) (Option.some (Jvm.ClassFile.FieldType.object "LazyForge$Use")) (d + 7) [vA g l0, vA g l1, vA g l2] (fun h => (h, ts)) (c_X14_use l0 l1 l2) := by
  refine SF.of (lv := [(0, vA g l0), (1, vA g l1), (2, vA g l2)]) (by decide) (wt_A (wt_A (wt_A wt_0))) rfl (by simp only [la_A, la_I, la_J, la_0]) (fun Γ hg hnm o => ?_)
  subst hg
  have o : Ok Γ "LazyForge$Resolver" cX14_use 4 (Option.some (Jvm.ClassFile.FieldType.object "LazyForge$Use")) (d + 7) := o
  unfold c_X14_use
  refine s_aload_n o dX14_use_0 rfl 2 rfl ?_
  refine r_astore_n o dX14_use_1 rfl rfl ⟨(Nat.ne_of_beq_eq_false rfl), (fun _ => (vA_cat (mg Γ) l0)), ⟨(Nat.ne_of_beq_eq_false rfl), (fun _ => (vA_cat (mg Γ) l1)), ⟨(Nat.ne_of_beq_eq_false rfl), (fun _ => (vA_cat (mg Γ) l2)), trivial⟩⟩⟩ ?_
  refine r_to [(0, vA (mg Γ) l0), (1, vA (mg Γ) l1), (2, vA (mg Γ) l2), (3, vA (mg Γ) l2)] [1, 2, 3, 0] rfl ?_
  refine sc_X14_use_2 o _ ?_ l0 l1 l2 l2
  · intro v1 v2 v3
    refine s_new o mk_20 (lw_all_tbl q1438) dX14_use_38 (fun v4 hv4 => ?_)
    refine s_dup o dX14_use_41 (vA_cat (mg Γ) v4) ?_
    refine s_aload_n o dX14_use_42 rfl 1 rfl ?_
    refine s_aload_n o dX14_use_43 rfl 2 rfl ?_
    refine s_ci (d := d + 6) (As := [vA (mg Γ) v2, vA (mg Γ) v3]) (st := [vA (mg Γ) v4]) o (sc_X20_init (mg Γ) (d + 4) ts v4 v2 v3 hv4) mw_X20_init rfl (Or.inl (lw_all_tbl q1440)) (lw_all_tbl q1441) rfl hv4 (wt_A wt_0) rfl dX14_use_44 rfl (fun _ => ?_)
    refine r_astore_n o dX14_use_47 rfl rfl ⟨(Nat.ne_of_beq_eq_false rfl), (fun _ => (vA_cat (mg Γ) v1)), ⟨(Nat.ne_of_beq_eq_false rfl), (fun _ => (vA_cat (mg Γ) v2)), ⟨(Nat.ne_of_beq_eq_false rfl), (fun _ => (vA_cat (mg Γ) v3)), trivial⟩⟩⟩ ?_
    refine s_aload_n o dX14_use_48 rfl 1 rfl ?_
    refine r_getf (vA (mg Γ)) rfl o cf_X14_uses (Or.inl (lw_all_tbl q1109)) dX14_use_49 (fun v5 hv5 => ?_)
    refine s_aload_n o dX14_use_52 rfl 0 rfl ?_
    refine s_cvC (d := d + 6) (As := [vA (mg Γ) v4]) (st := []) (c := 27) o (sc_J13_add (mg Γ) d ts v5 v4) mw_J13_add rfl (Or.inl (lw_all_tbl q1193)) rfl (lw_all_tbl q1195) (lw_all_tbl q1194) wt_0 rfl dX14_use_53 rfl (rs := fun r => [vI r]) (fun _ => rfl) (fun v6 hv6 => ?_)
    refine s_pop o dX14_use_56 rfl ?_
    refine s_aload_n o dX14_use_57 rfl 0 rfl ?_
    exact s_aret o rfl (Or.inl ⟨_, rfl⟩) dX14_use_58 (fun _ hh => hh)
theorem dX14_name_0 : decode cX14_name 0 = .ok (.aload_n 0, 1) := by decide +kernel
theorem dX14_name_1 : decode cX14_name 1 = .ok (.getfield 43, 3) := by decide +kernel
theorem dX14_name_4 : decode cX14_name 4 = .ok (.iconst 1, 1) := by decide +kernel
theorem dX14_name_5 : decode cX14_name 5 = .ok (.isub, 1) := by decide +kernel
theorem dX14_name_6 : decode cX14_name 6 = .ok (.istore_n 3, 1) := by decide +kernel
theorem dX14_name_7 : decode cX14_name 7 = .ok (.iload_n 3, 1) := by decide +kernel
theorem dX14_name_8 : decode cX14_name 8 = .ok (.ifCond .lt 35, 3) := by decide +kernel
theorem dX14_name_11 : decode cX14_name 11 = .ok (.aload_n 0, 1) := by decide +kernel
theorem dX14_name_12 : decode cX14_name 12 = .ok (.getfield 18, 3) := by decide +kernel
theorem dX14_name_15 : decode cX14_name 15 = .ok (.iload_n 3, 1) := by decide +kernel
theorem dX14_name_16 : decode cX14_name 16 = .ok (.laload, 1) := by decide +kernel
theorem dX14_name_17 : decode cX14_name 17 = .ok (.aload_n 1, 1) := by decide +kernel
theorem dX14_name_18 : decode cX14_name 18 = .ok (.getfield 176, 3) := by decide +kernel
theorem dX14_name_21 : decode cX14_name 21 = .ok (.lcmp, 1) := by decide +kernel
theorem dX14_name_22 : decode cX14_name 22 = .ok (.ifCond .ne 15, 3) := by decide +kernel
theorem dX14_name_25 : decode cX14_name 25 = .ok (.aload_n 0, 1) := by decide +kernel
theorem dX14_name_26 : decode cX14_name 26 = .ok (.aload_n 0, 1) := by decide +kernel
theorem dX14_name_27 : decode cX14_name 27 = .ok (.getfield 24, 3) := by decide +kernel
theorem dX14_name_30 : decode cX14_name 30 = .ok (.iload_n 3, 1) := by decide +kernel
theorem dX14_name_31 : decode cX14_name 31 = .ok (.aaload, 1) := by decide +kernel
theorem dX14_name_32 : decode cX14_name 32 = .ok (.aload_n 2, 1) := by decide +kernel
theorem dX14_name_33 : decode cX14_name 33 = .ok (.invokevirtual 182, 3) := by decide +kernel
theorem dX14_name_36 : decode cX14_name 36 = .ok (.areturn, 1) := by decide +kernel
theorem dX14_name_37 : decode cX14_name 37 = .ok (.iinc 3 (-1), 3) := by decide +kernel
theorem dX14_name_40 : decode cX14_name 40 = .ok (.goto (-33), 3) := by decide +kernel
theorem dX14_name_43 : decode cX14_name 43 = .ok (.iconst 0, 1) := by decide +kernel
theorem dX14_name_44 : decode cX14_name 44 = .ok (.istore_n 3, 1) := by decide +kernel
theorem dX14_name_45 : decode cX14_name 45 = .ok (.iload_n 3, 1) := by decide +kernel
theorem dX14_name_46 : decode cX14_name 46 = .ok (.aload_n 0, 1) := by decide +kernel
theorem dX14_name_47 : decode cX14_name 47 = .ok (.getfield 39, 3) := by decide +kernel
theorem dX14_name_50 : decode cX14_name 50 = .ok (.getfield 55, 3) := by decide +kernel
theorem dX14_name_53 : decode cX14_name 53 = .ok (.if_icmp .ge 48, 3) := by decide +kernel
theorem dX14_name_56 : decode cX14_name 56 = .ok (.aload_n 0, 1) := by decide +kernel
theorem dX14_name_57 : decode cX14_name 57 = .ok (.getfield 39, 3) := by decide +kernel
theorem dX14_name_60 : decode cX14_name 60 = .ok (.getfield 75, 3) := by decide +kernel
theorem dX14_name_63 : decode cX14_name 63 = .ok (.iload_n 3, 1) := by decide +kernel
theorem dX14_name_64 : decode cX14_name 64 = .ok (.laload, 1) := by decide +kernel
theorem dX14_name_65 : decode cX14_name 65 = .ok (.aload_n 1, 1) := by decide +kernel
theorem dX14_name_66 : decode cX14_name 66 = .ok (.getfield 176, 3) := by decide +kernel
theorem dX14_name_69 : decode cX14_name 69 = .ok (.lcmp, 1) := by decide +kernel
theorem dX14_name_70 : decode cX14_name 70 = .ok (.ifCond .ne 25, 3) := by decide +kernel
theorem dX14_name_73 : decode cX14_name 73 = .ok (.new 186, 3) := by decide +kernel
theorem dX14_name_76 : decode cX14_name 76 = .ok (.dup, 1) := by decide +kernel
theorem dX14_name_77 : decode cX14_name 77 = .ok (.aload_n 0, 1) := by decide +kernel
theorem dX14_name_78 : decode cX14_name 78 = .ok (.getfield 12, 3) := by decide +kernel
theorem dX14_name_81 : decode cX14_name 81 = .ok (.getfield 69, 3) := by decide +kernel
theorem dX14_name_84 : decode cX14_name 84 = .ok (.iload_n 3, 1) := by decide +kernel
theorem dX14_name_85 : decode cX14_name 85 = .ok (.invokevirtual 84, 3) := by decide +kernel
theorem dX14_name_88 : decode cX14_name 88 = .ok (.checkcast 60, 3) := by decide +kernel
theorem dX14_name_91 : decode cX14_name 91 = .ok (.invokespecial 188, 3) := by decide +kernel
theorem dX14_name_94 : decode cX14_name 94 = .ok (.areturn, 1) := by decide +kernel
theorem dX14_name_95 : decode cX14_name 95 = .ok (.iinc 3 1, 3) := by decide +kernel
theorem dX14_name_98 : decode cX14_name 98 = .ok (.goto (-53), 3) := by decide +kernel
theorem dX14_name_101 : decode cX14_name 101 = .ok (.aload_n 0, 1) := by decide +kernel
theorem dX14_name_102 : decode cX14_name 102 = .ok (.iconst 5, 1) := by decide +kernel
theorem dX14_name_103 : decode cX14_name 103 = .ok (.aload_n 1, 1) := by decide +kernel
theorem dX14_name_104 : decode cX14_name 104 = .ok (.getfield 189, 3) := by decide +kernel
theorem dX14_name_107 : decode cX14_name 107 = .ok (.invokevirtual 107, 3) := by decide +kernel
theorem dX14_name_110 : decode cX14_name 110 = .ok (.areturn, 1) := by decide +kernel
theorem mw_X14_name : MW yX14_name (Cond.code yX14_name cX14_name 4 (Option.some (Jvm.ClassFile.FieldType.object "LazyForge$Part"))) cX14_name 4 (Option.some (Jvm.ClassFile.FieldType.object "LazyForge$Part")) 2 := ⟨rfl, ⟨(lw_all_tbl q1583), rfl, (lw_all_tbl q188)⟩, rfl, ⟨by decide, by decide⟩, by decide +kernel⟩
abbrev okc_X14_name_7 (x : Int × Int × Int × Int) : Prop := R32 x.2.2.2
abbrev lvc_X14_name_7 (Γ : Gm) (x : Int × Int × Int × Int) : List (Nat × Value) := [(0, vA (mg Γ) x.1), (1, vA (mg Γ) x.2.1), (2, vA (mg Γ) x.2.2.1), (3, vI x.2.2.2)]
noncomputable def c_X14_name_7b {A : Type} (k_25 : Int → Int → Int → Mo CH A) (k_43 : Int → Int → Mo CH A) (l0 : Int) (l1 : Int) (l2 : Int) (l3 : Int) : Mo CH ((Int × Int × Int × Int) ⊕ A) :=
  if l3 < 0 then
    lo (k_43 l0 l1)
  else
    bnd (gf [114] 2 l0) fun v1 =>
    bnd (ald 1 v1 l3) fun v2 =>
    bnd (gf [113] 4 l1) fun v3 =>
    if ¬ v2 = v3 then
      pr (.inl (l0, l1, l2, (w32 (l3 + (-1)))))
    else
      lo (k_25 l0 l2 l3)
theorem sc_X14_name_7b {Γ : Gm} {ts : TS} {d : Nat} (o : Ok Γ "LazyForge$Resolver" cX14_name 4 (Option.some (Jvm.ClassFile.FieldType.object "LazyForge$Part")) (d + 8)) {A : Type} {K : A → CH → Prop} (k_25 : Int → Int → Int → Mo CH A) (k_43 : Int → Int → Mo CH A) (hk_25 : ∀ (l0 : Int) (l2 : Int) (l3 : Int), R32 l3 → Sx Γ (fun h => (h, ts)) K 25 [(0, vA (mg Γ) l0), (2, vA (mg Γ) l2), (3, vI l3)] [] (k_25 l0 l2 l3)) (hk_43 : ∀ (l0 : Int) (l1 : Int), Sx Γ (fun h => (h, ts)) K 43 [(0, vA (mg Γ) l0), (1, vA (mg Γ) l1)] [] (k_43 l0 l1)) (l0 : Int) (l1 : Int) (l2 : Int) (l3 : Int) (hl3 : R32 l3) : Sx Γ (fun h => (h, ts)) (KL Γ (fun h => (h, ts)) okc_X14_name_7 K 7 (lvc_X14_name_7 Γ) []) 7 [(0, vA (mg Γ) l0), (1, vA (mg Γ) l1), (2, vA (mg Γ) l2), (3, vI l3)] [] (c_X14_name_7b k_25 k_43 l0 l1 l2 l3) := by
  unfold c_X14_name_7b
  refine s_iload_n o dX14_name_7 rfl 3 rfl ?_
  refine s_if_lt (tgt := 43) o dX14_name_8 (by decide) hl3 ?_ ?_
  · refine r_to [(0, vA (mg Γ) l0), (1, vA (mg Γ) l1)] [0, 1] rfl ?_
    exact s_lo (hk_43 l0 l1)
  · refine s_aload_n o dX14_name_11 rfl 0 rfl ?_
    refine r_getf (vA (mg Γ)) rfl o cf_X14_names (Or.inl (lw_all_tbl q1106)) dX14_name_12 (fun v1 hv1 => ?_)
    refine s_iload_n o dX14_name_15 rfl 3 rfl ?_
    refine r_lald o hl3 dX14_name_16 (fun v2 hv2 => ?_)
    refine s_aload_n o dX14_name_17 rfl 1 rfl ?_
    refine r_getf vJ rfl o cf_X13_name (Or.inr (Or.inl ⟨_, q905⟩)) dX14_name_18 (fun v3 hv3 => ?_)
    refine s_lcmp_ne (tgt := 37) o dX14_name_21 dX14_name_22 (by decide) hv2 hv3 ?_ ?_
    · refine r_iinc (j := 3) o dX14_name_37 rfl rfl [(0, vA (mg Γ) l0), (1, vA (mg Γ) l1), (2, vA (mg Γ) l2)] [0, 1, 2] rfl ⟨(Nat.ne_of_beq_eq_false rfl), (fun _ => (vA_cat (mg Γ) l0)), ⟨(Nat.ne_of_beq_eq_false rfl), (fun _ => (vA_cat (mg Γ) l1)), ⟨(Nat.ne_of_beq_eq_false rfl), (fun _ => (vA_cat (mg Γ) l2)), trivial⟩⟩⟩ ?_
      refine s_goto (tgt := 7) o dX14_name_40 (by decide) ?_
      refine r_to [(0, vA (mg Γ) l0), (1, vA (mg Γ) l1), (2, vA (mg Γ) l2), (3, vI (w32 (l3 + (-1))))] [1, 2, 3, 0] rfl ?_
      exact s_back (w32_R _) rfl
    · refine r_to [(0, vA (mg Γ) l0), (2, vA (mg Γ) l2), (3, vI l3)] [0, 2, 3] rfl ?_
      exact s_lo (hk_25 l0 l2 l3 hl3)
noncomputable def c_X14_name_7 {A : Type} (k_25 : Int → Int → Int → Mo CH A) (k_43 : Int → Int → Mo CH A) (l0 : Int) (l1 : Int) (l2 : Int) (l3 : Int) : Mo CH A := Loop (fun x => c_X14_name_7b k_25 k_43 x.1 x.2.1 x.2.2.1 x.2.2.2) (l0, l1, l2, l3)
theorem sc_X14_name_7 {Γ : Gm} {ts : TS} {d : Nat} (o : Ok Γ "LazyForge$Resolver" cX14_name 4 (Option.some (Jvm.ClassFile.FieldType.object "LazyForge$Part")) (d + 8)) {A : Type} {K : A → CH → Prop} (k_25 : Int → Int → Int → Mo CH A) (k_43 : Int → Int → Mo CH A) (hk_25 : ∀ (l0 : Int) (l2 : Int) (l3 : Int), R32 l3 → Sx Γ (fun h => (h, ts)) K 25 [(0, vA (mg Γ) l0), (2, vA (mg Γ) l2), (3, vI l3)] [] (k_25 l0 l2 l3)) (hk_43 : ∀ (l0 : Int) (l1 : Int), Sx Γ (fun h => (h, ts)) K 43 [(0, vA (mg Γ) l0), (1, vA (mg Γ) l1)] [] (k_43 l0 l1)) (l0 : Int) (l1 : Int) (l2 : Int) (l3 : Int) (hl3 : R32 l3) : Sx Γ (fun h => (h, ts)) K 7 [(0, vA (mg Γ) l0), (1, vA (mg Γ) l1), (2, vA (mg Γ) l2), (3, vI l3)] [] (c_X14_name_7 k_25 k_43 l0 l1 l2 l3) :=
  s_loop okc_X14_name_7 (lvc_X14_name_7 Γ) (fun x hx => sc_X14_name_7b o k_25 k_43 hk_25 hk_43 x.1 x.2.1 x.2.2.1 x.2.2.2 hx) (x := (l0, l1, l2, l3)) hl3
abbrev okc_X14_name_45 (x : Int × Int × Int) : Prop := R32 x.2.2
abbrev lvc_X14_name_45 (Γ : Gm) (x : Int × Int × Int) : List (Nat × Value) := [(0, vA (mg Γ) x.1), (1, vA (mg Γ) x.2.1), (3, vI x.2.2)]
noncomputable def c_X14_name_45b {A : Type} (k_73 : Int → Int → Mo CH A) (k_101 : Int → Int → Mo CH A) (l0 : Int) (l1 : Int) (l3 : Int) : Mo CH ((Int × Int × Int) ⊕ A) :=
  bnd (gf [114] 0 l0) fun v1 =>
  bnd (gf [112] 20 v1) fun v2 =>
  if v2 ≤ l3 then
    lo (k_101 l0 l1)
  else
    bnd (gf [114] 0 l0) fun v3 =>
    bnd (gf [112] 16 v3) fun v4 =>
    bnd (ald 1 v4 l3) fun v5 =>
    bnd (gf [113] 4 l1) fun v6 =>
    if ¬ v5 = v6 then
      pr (.inl (l0, l1, (w32 (l3 + 1))))
    else
      lo (k_73 l0 l3)
theorem sc_X14_name_45b {Γ : Gm} {ts : TS} {d : Nat} (o : Ok Γ "LazyForge$Resolver" cX14_name 4 (Option.some (Jvm.ClassFile.FieldType.object "LazyForge$Part")) (d + 8)) {A : Type} {K : A → CH → Prop} (k_73 : Int → Int → Mo CH A) (k_101 : Int → Int → Mo CH A) (hk_73 : ∀ (l0 : Int) (l3 : Int), R32 l3 → Sx Γ (fun h => (h, ts)) K 73 [(0, vA (mg Γ) l0), (3, vI l3)] [] (k_73 l0 l3)) (hk_101 : ∀ (l0 : Int) (l1 : Int), Sx Γ (fun h => (h, ts)) K 101 [(0, vA (mg Γ) l0), (1, vA (mg Γ) l1)] [] (k_101 l0 l1)) (l0 : Int) (l1 : Int) (l3 : Int) (hl3 : R32 l3) : Sx Γ (fun h => (h, ts)) (KL Γ (fun h => (h, ts)) okc_X14_name_45 K 45 (lvc_X14_name_45 Γ) []) 45 [(0, vA (mg Γ) l0), (1, vA (mg Γ) l1), (3, vI l3)] [] (c_X14_name_45b k_73 k_101 l0 l1 l3) := by
  unfold c_X14_name_45b
  refine s_iload_n o dX14_name_45 rfl 2 rfl ?_
  refine s_aload_n o dX14_name_46 rfl 0 rfl ?_
  refine r_getf (vA (mg Γ)) rfl o cf_X14_text (Or.inl (lw_all_tbl q1104)) dX14_name_47 (fun v1 hv1 => ?_)
  refine r_getf vI rfl o cf_X12_functions (Or.inr (Or.inl ⟨_, q683⟩)) dX14_name_50 (fun v2 hv2 => ?_)
  refine s_icmp_ge (tgt := 101) o dX14_name_53 (by decide) hl3 hv2 ?_ ?_
  · refine r_to [(0, vA (mg Γ) l0), (1, vA (mg Γ) l1)] [0, 1] rfl ?_
    exact s_lo (hk_101 l0 l1)
  · refine s_aload_n o dX14_name_56 rfl 0 rfl ?_
    refine r_getf (vA (mg Γ)) rfl o cf_X14_text (Or.inl (lw_all_tbl q1104)) dX14_name_57 (fun v3 hv3 => ?_)
    refine r_getf (vA (mg Γ)) rfl o cf_X12_names (Or.inr (Or.inl ⟨_, q676⟩)) dX14_name_60 (fun v4 hv4 => ?_)
    refine s_iload_n o dX14_name_63 rfl 2 rfl ?_
    refine r_lald o hl3 dX14_name_64 (fun v5 hv5 => ?_)
    refine s_aload_n o dX14_name_65 rfl 1 rfl ?_
    refine r_getf vJ rfl o cf_X13_name (Or.inr (Or.inl ⟨_, q905⟩)) dX14_name_66 (fun v6 hv6 => ?_)
    refine s_lcmp_ne (tgt := 95) o dX14_name_69 dX14_name_70 (by decide) hv5 hv6 ?_ ?_
    · refine r_iinc (j := 2) o dX14_name_95 rfl rfl [(0, vA (mg Γ) l0), (1, vA (mg Γ) l1)] [0, 1] rfl ⟨(Nat.ne_of_beq_eq_false rfl), (fun _ => (vA_cat (mg Γ) l0)), ⟨(Nat.ne_of_beq_eq_false rfl), (fun _ => (vA_cat (mg Γ) l1)), trivial⟩⟩ ?_
      refine s_goto (tgt := 45) o dX14_name_98 (by decide) ?_
      refine r_to [(0, vA (mg Γ) l0), (1, vA (mg Γ) l1), (3, vI (w32 (l3 + 1)))] [1, 2, 0] rfl ?_
      exact s_back (w32_R _) rfl
    · refine r_to [(0, vA (mg Γ) l0), (3, vI l3)] [0, 2] rfl ?_
      exact s_lo (hk_73 l0 l3 hl3)
noncomputable def c_X14_name_45 {A : Type} (k_73 : Int → Int → Mo CH A) (k_101 : Int → Int → Mo CH A) (l0 : Int) (l1 : Int) (l3 : Int) : Mo CH A := Loop (fun x => c_X14_name_45b k_73 k_101 x.1 x.2.1 x.2.2) (l0, l1, l3)
theorem sc_X14_name_45 {Γ : Gm} {ts : TS} {d : Nat} (o : Ok Γ "LazyForge$Resolver" cX14_name 4 (Option.some (Jvm.ClassFile.FieldType.object "LazyForge$Part")) (d + 8)) {A : Type} {K : A → CH → Prop} (k_73 : Int → Int → Mo CH A) (k_101 : Int → Int → Mo CH A) (hk_73 : ∀ (l0 : Int) (l3 : Int), R32 l3 → Sx Γ (fun h => (h, ts)) K 73 [(0, vA (mg Γ) l0), (3, vI l3)] [] (k_73 l0 l3)) (hk_101 : ∀ (l0 : Int) (l1 : Int), Sx Γ (fun h => (h, ts)) K 101 [(0, vA (mg Γ) l0), (1, vA (mg Γ) l1)] [] (k_101 l0 l1)) (l0 : Int) (l1 : Int) (l3 : Int) (hl3 : R32 l3) : Sx Γ (fun h => (h, ts)) K 45 [(0, vA (mg Γ) l0), (1, vA (mg Γ) l1), (3, vI l3)] [] (c_X14_name_45 k_73 k_101 l0 l1 l3) :=
  s_loop okc_X14_name_45 (lvc_X14_name_45 Γ) (fun x hx => sc_X14_name_45b o k_73 k_101 hk_73 hk_101 x.1 x.2.1 x.2.2 hx) (x := (l0, l1, l3)) hl3
noncomputable def c_X14_name (l0 : Int) (l1 : Int) (l2 : Int) : Mo CH Int :=
  bnd (gf [114] 4 l0) fun v1 =>
  c_X14_name_7
    (fun v2 v3 v4 => bnd (gf [114] 3 v2) fun v5 =>
  bnd (ald 7 v5 v4) fun v6 =>
  bnd (isk 114 v2) fun _ =>
  bnd (c_X14_use v2 v6 v3) fun v7 =>
  pr v7)
    (fun v8 v9 => c_X14_name_45
    (fun v10 v11 => bnd (newo 19) fun v12 =>
  bnd (gf [114] 1 v10) fun v13 =>
  bnd (gf [115] 0 v13) fun v14 =>
  bnd (isk 127 v14) fun _ =>
  bnd (c_J13_get v14 v11) fun v15 =>
  bnd (ckk [116] v15) fun _ =>
  bnd (c_X19_init v12 v15) fun _ =>
  pr v12)
    (fun v16 v17 => bnd (gf [113] 1 v17) fun v18 =>
  bnd (isk 114 v16) fun _ =>
  bnd (c_X14_fail v16 5 v18) fun v19 =>
  pr v19) v8 v9 0) l0 l1 l2 (w32 (v1 - 1))
theorem sc_X14_name (g : gC) (d : Nat) (ts : TS) (l0 : Int) (l1 : Int) (l2 : Int) : SF g yX14_name (Cond.code yX14_name cX14_name 4 (Option.some (Jvm.ClassFile.FieldType.object "LazyForge$Part"))) (Option.some (Jvm.ClassFile.FieldType.object "LazyForge$Part")) (d + 8) [vA g l0, vA g l1, vA g l2] (fun h => (h, ts)) (c_X14_name l0 l1 l2) := by
  refine SF.of (lv := [(0, vA g l0), (1, vA g l1), (2, vA g l2)]) (by decide) (wt_A (wt_A (wt_A wt_0))) rfl (by simp only [la_A, la_I, la_J, la_0]) (fun Γ hg hnm o => ?_)
  subst hg
  have o : Ok Γ "LazyForge$Resolver" cX14_name 4 (Option.some (Jvm.ClassFile.FieldType.object "LazyForge$Part")) (d + 8) := o
  unfold c_X14_name
  refine s_aload_n o dX14_name_0 rfl 0 rfl ?_
  refine r_getf vI rfl o cf_X14_seen (Or.inl (lw_all_tbl q1108)) dX14_name_1 (fun v1 hv1 => ?_)
  refine s_iconst o dX14_name_4 ?_
  refine s_isub o dX14_name_5 ?_
  refine r_istore_n o dX14_name_6 rfl rfl ⟨(Nat.ne_of_beq_eq_false rfl), (fun _ => (vA_cat (mg Γ) l0)), ⟨(Nat.ne_of_beq_eq_false rfl), (fun _ => (vA_cat (mg Γ) l1)), ⟨(Nat.ne_of_beq_eq_false rfl), (fun _ => (vA_cat (mg Γ) l2)), trivial⟩⟩⟩ ?_
  refine r_to [(0, vA (mg Γ) l0), (1, vA (mg Γ) l1), (2, vA (mg Γ) l2), (3, vI (w32 (v1 - 1)))] [1, 2, 3, 0] rfl ?_
  refine sc_X14_name_7 o _ _ ?_ ?_ l0 l1 l2 (w32 (v1 - 1)) (w32_R _)
  · intro v2 v3 v4 hv4
    refine s_aload_n o dX14_name_25 rfl 0 rfl ?_
    refine s_aload_n o dX14_name_26 rfl 0 rfl ?_
    refine r_getf (vA (mg Γ)) rfl o cf_X14_variables (Or.inl (lw_all_tbl q1107)) dX14_name_27 (fun v5 hv5 => ?_)
    refine s_iload_n o dX14_name_30 rfl 2 rfl ?_
    refine r_aald (kd := 7) o (by decide) rfl hv4 dX14_name_31 (fun v6 => ?_)
    refine s_aload_n o dX14_name_32 rfl 1 rfl ?_
    refine s_cvC (d := d + 7) (As := [vA (mg Γ) v6, vA (mg Γ) v3]) (st := []) (c := 14) o (sc_X14_use (mg Γ) d ts v2 v6 v3) mw_X14_use rfl (Or.inl (lw_all_tbl q1381)) rfl (lw_all_tbl qs42) (lw_all_tbl q1383) wt_0 rfl dX14_name_33 rfl (rs := fun r => [vA (mg Γ) r]) (fun _ => rfl) (fun v7 hv7 => ?_)
    exact s_aret o rfl (Or.inl ⟨_, rfl⟩) dX14_name_36 (fun _ hh => hh)
  · intro v8 v9
    refine s_iconst o dX14_name_43 ?_
    refine r_istore_n o dX14_name_44 rfl rfl ⟨(Nat.ne_of_beq_eq_false rfl), (fun _ => (vA_cat (mg Γ) v8)), ⟨(Nat.ne_of_beq_eq_false rfl), (fun _ => (vA_cat (mg Γ) v9)), trivial⟩⟩ ?_
    refine r_to [(0, vA (mg Γ) v8), (1, vA (mg Γ) v9), (3, vI 0)] [1, 2, 0] rfl ?_
    refine sc_X14_name_45 o _ _ ?_ ?_ v8 v9 0 (r32 rfl)
    · intro v10 v11 hv11
      refine s_new o mk_19 (lw_all_tbl q1361) dX14_name_73 (fun v12 hv12 => ?_)
      refine s_dup o dX14_name_76 (vA_cat (mg Γ) v12) ?_
      refine s_aload_n o dX14_name_77 rfl 0 rfl ?_
      refine r_getf (vA (mg Γ)) rfl o cf_X14_program (Or.inl (lw_all_tbl q1105)) dX14_name_78 (fun v13 hv13 => ?_)
      refine r_getf (vA (mg Γ)) rfl o cf_X15_functions (Or.inr (Or.inl ⟨_, q1057⟩)) dX14_name_81 (fun v14 hv14 => ?_)
      refine s_iload_n o dX14_name_84 rfl 1 rfl ?_
      refine s_cvC (d := d + 7) (As := [vI v11]) (st := [vA (mg Γ) v12, vA (mg Γ) v12]) (c := 27) o (sc_J13_get (mg Γ) (d + 5) ts v14 v11 hv11) mw_J13_get rfl (Or.inl (lw_all_tbl q1266)) rfl (lw_all_tbl q1268) (lw_all_tbl q1267) (wt_A (wt_A wt_0)) rfl dX14_name_85 rfl (rs := fun r => [vA (mg Γ) r, vA (mg Γ) v12, vA (mg Γ) v12]) (fun _ => rfl) (fun v15 hv15 => ?_)
      refine s_cast o (cs_X16 o) (lw_all_tbl q1135) dX14_name_88 ?_
      refine s_ci (d := d + 7) (As := [vA (mg Γ) v15]) (st := [vA (mg Γ) v12]) o (sc_X19_init (mg Γ) (d + 5) ts v12 v15 hv12) mw_X19_init rfl (Or.inl (lw_all_tbl q1363)) (lw_all_tbl q1364) rfl hv12 (wt_A wt_0) rfl dX14_name_91 rfl (fun _ => ?_)
      exact s_aret o rfl (Or.inl ⟨_, rfl⟩) dX14_name_94 (fun _ hh => hh)
    · intro v16 v17
      refine s_aload_n o dX14_name_101 rfl 0 rfl ?_
      refine s_iconst o dX14_name_102 ?_
      refine s_aload_n o dX14_name_103 rfl 1 rfl ?_
      refine r_getf vI rfl o cf_X13_place (Or.inr (Or.inl ⟨_, q899⟩)) dX14_name_104 (fun v18 hv18 => ?_)
      refine s_cvC (d := d + 7) (As := [vI 5, vI v18]) (st := []) (c := 14) o (sc_X14_fail (mg Γ) (d + 7) ts v16 5 v18 (r32 rfl) hv18) mw_X14_fail rfl (Or.inl (lw_all_tbl q1584)) rfl (lw_all_tbl qs45) (lw_all_tbl q1586) wt_0 rfl dX14_name_107 rfl (rs := fun r => [vA (mg Γ) r]) (fun _ => rfl) (fun v19 hv19 => ?_)
      exact s_aret o rfl (Or.inl ⟨_, rfl⟩) dX14_name_110 (fun _ hh => hh)
theorem dJ13_isEmpty_0 : decode cJ13_isEmpty 0 = .ok (.aload_n 0, 1) := by decide +kernel
theorem dJ13_isEmpty_1 : decode cJ13_isEmpty 1 = .ok (.getfield 48, 3) := by decide +kernel
theorem dJ13_isEmpty_4 : decode cJ13_isEmpty 4 = .ok (.ifCond .ne 7, 3) := by decide +kernel
theorem dJ13_isEmpty_7 : decode cJ13_isEmpty 7 = .ok (.iconst 1, 1) := by decide +kernel
theorem dJ13_isEmpty_8 : decode cJ13_isEmpty 8 = .ok (.goto 4, 3) := by decide +kernel
theorem dJ13_isEmpty_11 : decode cJ13_isEmpty 11 = .ok (.iconst 0, 1) := by decide +kernel
theorem dJ13_isEmpty_12 : decode cJ13_isEmpty 12 = .ok (.ireturn, 1) := by decide +kernel
theorem mw_J13_isEmpty : MW yJ13_isEmpty (Cond.code yJ13_isEmpty cJ13_isEmpty 1 (Option.some Jvm.ClassFile.FieldType.boolean)) cJ13_isEmpty 1 (Option.some Jvm.ClassFile.FieldType.boolean) 0 := ⟨rfl, ⟨(lw_all_tbl q1380), rfl, (lw_all_tbl q192)⟩, rfl, ⟨by decide, by decide⟩, by decide +kernel⟩
noncomputable def c_J13_isEmpty (l0 : Int) : Mo CH Int :=
  bnd (gf [127] 2 l0) fun v1 =>
  if ¬ v1 = 0 then
    pr 0
  else
    pr 1
theorem sc_J13_isEmpty (g : gC) (d : Nat) (ts : TS) (l0 : Int) : SF g yJ13_isEmpty (Cond.code yJ13_isEmpty cJ13_isEmpty 1 (Option.some Jvm.ClassFile.FieldType.boolean)) (Option.some Jvm.ClassFile.FieldType.boolean) (d + 0) [vA g l0] (fun h => (h, ts)) (c_J13_isEmpty l0) := by
  refine SF.of (lv := [(0, vA g l0)]) (by decide) (wt_A wt_0) rfl (by simp only [la_A, la_I, la_J, la_0]) (fun Γ hg hnm o => ?_)
  subst hg
  have o : Ok Γ "java/util/ArrayList" cJ13_isEmpty 1 (Option.some Jvm.ClassFile.FieldType.boolean) (d + 0) := o
  unfold c_J13_isEmpty
  refine s_aload_n o dJ13_isEmpty_0 rfl 0 rfl ?_
  refine r_getf vI rfl o cf_J13_size (Or.inl (lw_all_tbl q1045)) dJ13_isEmpty_1 (fun v1 hv1 => ?_)
  refine s_if_ne (tgt := 11) o dJ13_isEmpty_4 (by decide) hv1 ?_ ?_
  · refine s_iconst o dJ13_isEmpty_11 ?_
    exact s_iret o rfl i_boolean (Or.inl rfl) dJ13_isEmpty_12 (fun _ hh => hh)
  · refine s_iconst o dJ13_isEmpty_7 ?_
    refine s_goto (tgt := 12) o dJ13_isEmpty_8 (by decide) ?_
    exact s_iret o rfl i_boolean (Or.inr rfl) dJ13_isEmpty_12 (fun _ hh => hh)
theorem dX14_show_0 : decode cX14_show 0 = .ok (.aload_n 0, 1) := by decide +kernel
theorem dX14_show_1 : decode cX14_show 1 = .ok (.getfield 43, 3) := by decide +kernel
theorem dX14_show_4 : decode cX14_show 4 = .ok (.aload_n 0, 1) := by decide +kernel
theorem dX14_show_5 : decode cX14_show 5 = .ok (.getfield 18, 3) := by decide +kernel
theorem dX14_show_8 : decode cX14_show 8 = .ok (.arraylength, 1) := by decide +kernel
theorem dX14_show_9 : decode cX14_show 9 = .ok (.if_icmp .ne 66, 3) := by decide +kernel
theorem dX14_show_12 : decode cX14_show 12 = .ok (.iconst 2, 1) := by decide +kernel
theorem dX14_show_13 : decode cX14_show 13 = .ok (.aload_n 0, 1) := by decide +kernel
theorem dX14_show_14 : decode cX14_show 14 = .ok (.getfield 43, 3) := by decide +kernel
theorem dX14_show_17 : decode cX14_show 17 = .ok (.imul, 1) := by decide +kernel
theorem dX14_show_18 : decode cX14_show 18 = .ok (.newarray .long, 2) := by decide +kernel
theorem dX14_show_20 : decode cX14_show 20 = .ok (.astore 4, 2) := by decide +kernel
theorem dX14_show_22 : decode cX14_show 22 = .ok (.iconst 2, 1) := by decide +kernel
theorem dX14_show_23 : decode cX14_show 23 = .ok (.aload_n 0, 1) := by decide +kernel
theorem dX14_show_24 : decode cX14_show 24 = .ok (.getfield 43, 3) := by decide +kernel
theorem dX14_show_27 : decode cX14_show 27 = .ok (.imul, 1) := by decide +kernel
theorem dX14_show_28 : decode cX14_show 28 = .ok (.anewarray 22, 3) := by decide +kernel
theorem dX14_show_31 : decode cX14_show 31 = .ok (.astore 5, 2) := by decide +kernel
theorem dX14_show_33 : decode cX14_show 33 = .ok (.aload_n 0, 1) := by decide +kernel
theorem dX14_show_34 : decode cX14_show 34 = .ok (.getfield 18, 3) := by decide +kernel
theorem dX14_show_37 : decode cX14_show 37 = .ok (.iconst 0, 1) := by decide +kernel
theorem dX14_show_38 : decode cX14_show 38 = .ok (.aload 4, 2) := by decide +kernel
theorem dX14_show_40 : decode cX14_show 40 = .ok (.iconst 0, 1) := by decide +kernel
theorem dX14_show_41 : decode cX14_show 41 = .ok (.aload_n 0, 1) := by decide +kernel
theorem dX14_show_42 : decode cX14_show 42 = .ok (.getfield 43, 3) := by decide +kernel
theorem dX14_show_45 : decode cX14_show 45 = .ok (.invokestatic 46, 3) := by decide +kernel
theorem dX14_show_48 : decode cX14_show 48 = .ok (.aload_n 0, 1) := by decide +kernel
theorem dX14_show_49 : decode cX14_show 49 = .ok (.getfield 24, 3) := by decide +kernel
theorem dX14_show_52 : decode cX14_show 52 = .ok (.iconst 0, 1) := by decide +kernel
theorem dX14_show_53 : decode cX14_show 53 = .ok (.aload 5, 2) := by decide +kernel
theorem dX14_show_55 : decode cX14_show 55 = .ok (.iconst 0, 1) := by decide +kernel
theorem dX14_show_56 : decode cX14_show 56 = .ok (.aload_n 0, 1) := by decide +kernel
theorem dX14_show_57 : decode cX14_show 57 = .ok (.getfield 43, 3) := by decide +kernel
theorem dX14_show_60 : decode cX14_show 60 = .ok (.invokestatic 46, 3) := by decide +kernel
theorem dX14_show_63 : decode cX14_show 63 = .ok (.aload_n 0, 1) := by decide +kernel
theorem dX14_show_64 : decode cX14_show 64 = .ok (.aload 4, 2) := by decide +kernel
theorem dX14_show_66 : decode cX14_show 66 = .ok (.putfield 18, 3) := by decide +kernel
theorem dX14_show_69 : decode cX14_show 69 = .ok (.aload_n 0, 1) := by decide +kernel
theorem dX14_show_70 : decode cX14_show 70 = .ok (.aload 5, 2) := by decide +kernel
theorem dX14_show_72 : decode cX14_show 72 = .ok (.putfield 24, 3) := by decide +kernel
theorem dX14_show_75 : decode cX14_show 75 = .ok (.aload_n 0, 1) := by decide +kernel
theorem dX14_show_76 : decode cX14_show 76 = .ok (.getfield 18, 3) := by decide +kernel
theorem dX14_show_79 : decode cX14_show 79 = .ok (.aload_n 0, 1) := by decide +kernel
theorem dX14_show_80 : decode cX14_show 80 = .ok (.getfield 43, 3) := by decide +kernel
theorem dX14_show_83 : decode cX14_show 83 = .ok (.lload_n 1, 1) := by decide +kernel
theorem dX14_show_84 : decode cX14_show 84 = .ok (.lastore, 1) := by decide +kernel
theorem dX14_show_85 : decode cX14_show 85 = .ok (.aload_n 0, 1) := by decide +kernel
theorem dX14_show_86 : decode cX14_show 86 = .ok (.getfield 24, 3) := by decide +kernel
theorem dX14_show_89 : decode cX14_show 89 = .ok (.aload_n 0, 1) := by decide +kernel
theorem dX14_show_90 : decode cX14_show 90 = .ok (.getfield 43, 3) := by decide +kernel
theorem dX14_show_93 : decode cX14_show 93 = .ok (.aload_n 3, 1) := by decide +kernel
theorem dX14_show_94 : decode cX14_show 94 = .ok (.aastore, 1) := by decide +kernel
theorem dX14_show_95 : decode cX14_show 95 = .ok (.aload_n 0, 1) := by decide +kernel
theorem dX14_show_96 : decode cX14_show 96 = .ok (.dup, 1) := by decide +kernel
theorem dX14_show_97 : decode cX14_show 97 = .ok (.getfield 43, 3) := by decide +kernel
theorem dX14_show_100 : decode cX14_show 100 = .ok (.iconst 1, 1) := by decide +kernel
theorem dX14_show_101 : decode cX14_show 101 = .ok (.iadd, 1) := by decide +kernel
theorem dX14_show_102 : decode cX14_show 102 = .ok (.putfield 43, 3) := by decide +kernel
theorem dX14_show_105 : decode cX14_show 105 = .ok (.return_, 1) := by decide +kernel
theorem mw_X14_show : MW yX14_show (Cond.code yX14_show cX14_show 6 (Option.none : Option Jvm.ClassFile.FieldType)) cX14_show 6 (Option.none : Option Jvm.ClassFile.FieldType) 2 := ⟨rfl, ⟨(lw_all_tbl q1301), rfl, (lw_all_tbl q188)⟩, rfl, ⟨by decide, by decide⟩, by decide +kernel⟩
noncomputable def c_X14_show_75  (l0 : Int) (l1 : Int) (l3 : Int) : Mo CH Int :=
  bnd (gf [114] 2 l0) fun v1 =>
  bnd (gf [114] 4 l0) fun v2 =>
  bnd (ast 1 v1 v2 l1) fun _ =>
  bnd (gf [114] 3 l0) fun v3 =>
  bnd (gf [114] 4 l0) fun v4 =>
  bnd (asq 7 v3 v4 l3) fun _ =>
  bnd (gf [114] 4 l0) fun v5 =>
  bnd (pf [114] 4 l0 (w32 (v5 + 1))) fun _ =>
  pr 0
theorem sc_X14_show_75 {Γ : Gm} {ts : TS} {d : Nat} (o : Ok Γ "LazyForge$Resolver" cX14_show 6 (Option.none : Option Jvm.ClassFile.FieldType) (d + 1))   (l0 : Int) (l1 : Int) (l3 : Int) (hl1 : R64 l1) : Sx Γ (fun h => (h, ts)) (fun a s => mt Γ = (0, a, ((s, ts) : Wd))) 75 [(0, vA (mg Γ) l0), (1, vJ l1), (3, vA (mg Γ) l3)] [] (c_X14_show_75 l0 l1 l3) := by
  unfold c_X14_show_75
  refine s_aload_n o dX14_show_75 rfl 0 rfl ?_
  refine r_getf (vA (mg Γ)) rfl o cf_X14_names (Or.inl (lw_all_tbl q1106)) dX14_show_76 (fun v1 hv1 => ?_)
  refine s_aload_n o dX14_show_79 rfl 0 rfl ?_
  refine r_getf vI rfl o cf_X14_seen (Or.inl (lw_all_tbl q1108)) dX14_show_80 (fun v2 hv2 => ?_)
  refine s_lload_n o dX14_show_83 rfl 1 rfl ?_
  refine r_last o hv2 hl1 dX14_show_84 ?_
  refine s_aload_n o dX14_show_85 rfl 0 rfl ?_
  refine r_getf (vA (mg Γ)) rfl o cf_X14_variables (Or.inl (lw_all_tbl q1107)) dX14_show_86 (fun v3 hv3 => ?_)
  refine s_aload_n o dX14_show_89 rfl 0 rfl ?_
  refine r_getf vI rfl o cf_X14_seen (Or.inl (lw_all_tbl q1108)) dX14_show_90 (fun v4 hv4 => ?_)
  refine s_aload_n o dX14_show_93 rfl 2 rfl ?_
  refine s_aast (kd := 7) o (by decide) (as_7 o) (Or.inl ⟨_, rfl⟩) hv4 dX14_show_94 ?_
  refine s_aload_n o dX14_show_95 rfl 0 rfl ?_
  refine s_dup o dX14_show_96 (vA_cat (mg Γ) l0) ?_
  refine r_getf vI rfl o cf_X14_seen (Or.inl (lw_all_tbl q1108)) dX14_show_97 (fun v5 hv5 => ?_)
  refine s_iconst o dX14_show_100 ?_
  refine s_iadd o dX14_show_101 ?_
  refine r_putf vI rfl o cf_X14_seen (Or.inl (lw_all_tbl q1108)) dX14_show_102 (Or.inl rfl) (w32_R _) ty_int ?_
  exact s_vret o rfl dX14_show_105 (fun _ hh => hh)
noncomputable def c_X14_show (l0 : Int) (l1 : Int) (l3 : Int) : Mo CH Int :=
  bnd (gf [114] 4 l0) fun v1 =>
  bnd (gf [114] 2 l0) fun v2 =>
  bnd (aln v2) fun v3 =>
  if ¬ v1 = v3 then
    c_X14_show_75 l0 l1 l3
  else
    bnd (gf [114] 4 l0) fun v4 =>
    bnd (newa 1 (w32 (2 * v4))) fun v5 =>
    bnd (gf [114] 4 l0) fun v6 =>
    bnd (newa 7 (w32 (2 * v6))) fun v7 =>
    bnd (gf [114] 2 l0) fun v8 =>
    bnd (gf [114] 4 l0) fun v9 =>
    bnd (acp 1 v8 0 v5 0 v9) fun _ =>
    bnd (gf [114] 3 l0) fun v10 =>
    bnd (gf [114] 4 l0) fun v11 =>
    bnd (acp 7 v10 0 v7 0 v11) fun _ =>
    bnd (pf [114] 2 l0 v5) fun _ =>
    bnd (pf [114] 3 l0 v7) fun _ =>
    c_X14_show_75 l0 l1 l3
theorem sc_X14_show (g : gC) (d : Nat) (ts : TS) (l0 : Int) (l1 : Int) (l3 : Int) (hl1 : R64 l1) : SF g yX14_show (Cond.code yX14_show cX14_show 6 (Option.none : Option Jvm.ClassFile.FieldType)) (Option.none : Option Jvm.ClassFile.FieldType) (d + 1) [vA g l0, vJ l1, vA g l3] (fun h => (h, ts)) (c_X14_show l0 l1 l3) := by
  refine SF.of (lv := [(0, vA g l0), (1, vJ l1), (3, vA g l3)]) (by decide) (wt_A (wt_J (wt_A wt_0))) rfl (by simp only [la_A, la_I, la_J, la_0]) (fun Γ hg hnm o => ?_)
  subst hg
  have o : Ok Γ "LazyForge$Resolver" cX14_show 6 (Option.none : Option Jvm.ClassFile.FieldType) (d + 1) := o
  unfold c_X14_show
  refine s_aload_n o dX14_show_0 rfl 0 rfl ?_
  refine r_getf vI rfl o cf_X14_seen (Or.inl (lw_all_tbl q1108)) dX14_show_1 (fun v1 hv1 => ?_)
  refine s_aload_n o dX14_show_4 rfl 0 rfl ?_
  refine r_getf (vA (mg Γ)) rfl o cf_X14_names (Or.inl (lw_all_tbl q1106)) dX14_show_5 (fun v2 hv2 => ?_)
  refine s_alen o dX14_show_8 (fun v3 hv3 => ?_)
  refine s_icmp_ne (tgt := 75) o dX14_show_9 (by decide) hv1 (rN hv3) ?_ ?_
  · exact sc_X14_show_75 o l0 l1 l3 hl1
  · refine s_iconst o dX14_show_12 ?_
    refine s_aload_n o dX14_show_13 rfl 0 rfl ?_
    refine r_getf vI rfl o cf_X14_seen (Or.inl (lw_all_tbl q1108)) dX14_show_14 (fun v4 hv4 => ?_)
    refine s_imul o dX14_show_17 ?_
    refine s_newa (kd := 1) o (by decide) rfl (by decide) (o.ra (by decide)) (lw_all_tbl q438) (w32_R _) dX14_show_18 (fun v5 hv5 => ?_)
    refine r_astore o dX14_show_20 rfl ⟨(Nat.ne_of_beq_eq_false rfl), (fun _ => (vA_cat (mg Γ) l0)), ⟨(Nat.ne_of_beq_eq_false rfl), (fun e => absurd e (Nat.ne_of_beq_eq_false rfl)), ⟨(Nat.ne_of_beq_eq_false rfl), (fun _ => (vA_cat (mg Γ) l3)), trivial⟩⟩⟩ ?_
    refine s_iconst o dX14_show_22 ?_
    refine s_aload_n o dX14_show_23 rfl 1 rfl ?_
    refine r_getf vI rfl o cf_X14_seen (Or.inl (lw_all_tbl q1108)) dX14_show_24 (fun v6 hv6 => ?_)
    refine s_imul o dX14_show_27 ?_
    refine s_anew (kd := 7) o (by decide) (Or.inl rfl) (lw_all_tbl q1100) ao_7 (w32_R _) dX14_show_28 (fun v7 hv7 => ?_)
    refine r_astore o dX14_show_31 rfl ⟨(Nat.ne_of_beq_eq_false rfl), (fun _ => (vA_cat (mg Γ) v5)), ⟨(Nat.ne_of_beq_eq_false rfl), (fun _ => (vA_cat (mg Γ) l0)), ⟨(Nat.ne_of_beq_eq_false rfl), (fun e => absurd e (Nat.ne_of_beq_eq_false rfl)), ⟨(Nat.ne_of_beq_eq_false rfl), (fun _ => (vA_cat (mg Γ) l3)), trivial⟩⟩⟩⟩ ?_
    refine s_aload_n o dX14_show_33 rfl 2 rfl ?_
    refine r_getf (vA (mg Γ)) rfl o cf_X14_names (Or.inl (lw_all_tbl q1106)) dX14_show_34 (fun v8 hv8 => ?_)
    refine s_iconst o dX14_show_37 ?_
    refine s_aload o dX14_show_38 1 rfl ?_
    refine s_iconst o dX14_show_40 ?_
    refine s_aload_n o dX14_show_41 rfl 2 rfl ?_
    refine r_getf vI rfl o cf_X14_seen (Or.inl (lw_all_tbl q1108)) dX14_show_42 (fun v9 hv9 => ?_)
    refine s_acp (kd := 1) (d := d + 0) o (by decide) (fun q => absurd q (by decide)) (lw_all_tbl q1302) (r32 rfl) (r32 rfl) hv9 wt_0 rfl dX14_show_45 (lw_all_tbl q481) (lw_all_tbl q480) (lw_all_tbl q179) ?_
    refine s_aload_n o dX14_show_48 rfl 2 rfl ?_
    refine r_getf (vA (mg Γ)) rfl o cf_X14_variables (Or.inl (lw_all_tbl q1107)) dX14_show_49 (fun v10 hv10 => ?_)
    refine s_iconst o dX14_show_52 ?_
    refine s_aload o dX14_show_53 0 rfl ?_
    refine s_iconst o dX14_show_55 ?_
    refine s_aload_n o dX14_show_56 rfl 2 rfl ?_
    refine r_getf vI rfl o cf_X14_seen (Or.inl (lw_all_tbl q1108)) dX14_show_57 (fun v11 hv11 => ?_)
    refine s_acp (kd := 7) (d := d + 0) o (by decide) (fun _ => as_7 o) (lw_all_tbl q1302) (r32 rfl) (r32 rfl) hv11 wt_0 rfl dX14_show_60 (lw_all_tbl q481) (lw_all_tbl q480) (lw_all_tbl q179) ?_
    refine s_aload_n o dX14_show_63 rfl 2 rfl ?_
    refine s_aload o dX14_show_64 1 rfl ?_
    refine r_putf (vA (mg Γ)) rfl o cf_X14_names (Or.inl (lw_all_tbl q1106)) dX14_show_66 (Or.inl rfl) trivial (ty_array _) ?_
    refine s_aload_n o dX14_show_69 rfl 2 rfl ?_
    refine s_aload o dX14_show_70 0 rfl ?_
    refine r_putf (vA (mg Γ)) rfl o cf_X14_variables (Or.inl (lw_all_tbl q1107)) dX14_show_72 (Or.inl rfl) trivial (ty_array _) ?_
    refine r_to [(0, vA (mg Γ) l0), (1, vJ l1), (3, vA (mg Γ) l3)] [2, 3, 4] rfl ?_
    exact sc_X14_show_75 o l0 l1 l3 hl1
theorem dX14_parts_0 : decode cX14_parts 0 = .ok (.iload_n 3, 1) := by decide +kernel
theorem dX14_parts_1 : decode cX14_parts 1 = .ok (.iload_n 2, 1) := by decide +kernel
theorem dX14_parts_2 : decode cX14_parts 2 = .ok (.isub, 1) := by decide +kernel
theorem dX14_parts_3 : decode cX14_parts 3 = .ok (.anewarray 119, 3) := by decide +kernel
theorem dX14_parts_6 : decode cX14_parts 6 = .ok (.astore 5, 2) := by decide +kernel
theorem dX14_parts_8 : decode cX14_parts 8 = .ok (.iconst 0, 1) := by decide +kernel
theorem dX14_parts_9 : decode cX14_parts 9 = .ok (.istore 6, 2) := by decide +kernel
theorem dX14_parts_11 : decode cX14_parts 11 = .ok (.iload 6, 2) := by decide +kernel
theorem dX14_parts_13 : decode cX14_parts 13 = .ok (.aload 5, 2) := by decide +kernel
theorem dX14_parts_15 : decode cX14_parts 15 = .ok (.arraylength, 1) := by decide +kernel
theorem dX14_parts_16 : decode cX14_parts 16 = .ok (.if_icmp .ge 37, 3) := by decide +kernel
theorem dX14_parts_19 : decode cX14_parts 19 = .ok (.aload_n 0, 1) := by decide +kernel
theorem dX14_parts_20 : decode cX14_parts 20 = .ok (.aload_n 1, 1) := by decide +kernel
theorem dX14_parts_21 : decode cX14_parts 21 = .ok (.iload_n 2, 1) := by decide +kernel
theorem dX14_parts_22 : decode cX14_parts 22 = .ok (.iload 6, 2) := by decide +kernel
theorem dX14_parts_24 : decode cX14_parts 24 = .ok (.iadd, 1) := by decide +kernel
theorem dX14_parts_25 : decode cX14_parts 25 = .ok (.aaload, 1) := by decide +kernel
theorem dX14_parts_26 : decode cX14_parts 26 = .ok (.aload 4, 2) := by decide +kernel
theorem dX14_parts_28 : decode cX14_parts 28 = .ok (.invokevirtual 156, 3) := by decide +kernel
theorem dX14_parts_31 : decode cX14_parts 31 = .ok (.astore 7, 2) := by decide +kernel
theorem dX14_parts_33 : decode cX14_parts 33 = .ok (.aload 7, 2) := by decide +kernel
theorem dX14_parts_35 : decode cX14_parts 35 = .ok (.ifnonnull 5, 3) := by decide +kernel
theorem dX14_parts_38 : decode cX14_parts 38 = .ok (.aconst_null, 1) := by decide +kernel
theorem dX14_parts_39 : decode cX14_parts 39 = .ok (.areturn, 1) := by decide +kernel
theorem dX14_parts_40 : decode cX14_parts 40 = .ok (.aload 5, 2) := by decide +kernel
theorem dX14_parts_42 : decode cX14_parts 42 = .ok (.iload 6, 2) := by decide +kernel
theorem dX14_parts_44 : decode cX14_parts 44 = .ok (.aload 7, 2) := by decide +kernel
theorem dX14_parts_46 : decode cX14_parts 46 = .ok (.aastore, 1) := by decide +kernel
theorem dX14_parts_47 : decode cX14_parts 47 = .ok (.iinc 6 1, 3) := by decide +kernel
theorem dX14_parts_50 : decode cX14_parts 50 = .ok (.goto (-39), 3) := by decide +kernel
theorem dX14_parts_53 : decode cX14_parts 53 = .ok (.aload 5, 2) := by decide +kernel
theorem dX14_parts_55 : decode cX14_parts 55 = .ok (.areturn, 1) := by decide +kernel
theorem mw_X14_parts : MW yX14_parts (Cond.code yX14_parts cX14_parts 8 (Option.some (Jvm.ClassFile.FieldType.array (Jvm.ClassFile.FieldType.object "LazyForge$Part")))) cX14_parts 8 (Option.some (Jvm.ClassFile.FieldType.array (Jvm.ClassFile.FieldType.object "LazyForge$Part"))) 4 := ⟨rfl, ⟨(lw_all_tbl q1320), rfl, (lw_all_tbl q188)⟩, rfl, ⟨by decide, by decide⟩, by decide +kernel⟩
theorem dX14_let_0 : decode cX14_let 0 = .ok (.aload_n 1, 1) := by decide +kernel
theorem dX14_let_1 : decode cX14_let 1 = .ok (.getfield 190, 3) := by decide +kernel
theorem dX14_let_4 : decode cX14_let 4 = .ok (.arraylength, 1) := by decide +kernel
theorem dX14_let_5 : decode cX14_let 5 = .ok (.istore_n 3, 1) := by decide +kernel
theorem dX14_let_6 : decode cX14_let 6 = .ok (.aload_n 0, 1) := by decide +kernel
theorem dX14_let_7 : decode cX14_let 7 = .ok (.getfield 43, 3) := by decide +kernel
theorem dX14_let_10 : decode cX14_let 10 = .ok (.istore 4, 2) := by decide +kernel
theorem dX14_let_12 : decode cX14_let 12 = .ok (.iload_n 3, 1) := by decide +kernel
theorem dX14_let_13 : decode cX14_let 13 = .ok (.anewarray 22, 3) := by decide +kernel
theorem dX14_let_16 : decode cX14_let 16 = .ok (.astore 5, 2) := by decide +kernel
theorem dX14_let_18 : decode cX14_let 18 = .ok (.iconst 0, 1) := by decide +kernel
theorem dX14_let_19 : decode cX14_let 19 = .ok (.istore 6, 2) := by decide +kernel
theorem dX14_let_21 : decode cX14_let 21 = .ok (.iload 6, 2) := by decide +kernel
theorem dX14_let_23 : decode cX14_let 23 = .ok (.iload_n 3, 1) := by decide +kernel
theorem dX14_let_24 : decode cX14_let 24 = .ok (.if_icmp .ge 34, 3) := by decide +kernel
theorem dX14_let_27 : decode cX14_let 27 = .ok (.aload 5, 2) := by decide +kernel
theorem dX14_let_29 : decode cX14_let 29 = .ok (.iload 6, 2) := by decide +kernel
theorem dX14_let_31 : decode cX14_let 31 = .ok (.aload_n 2, 1) := by decide +kernel
theorem dX14_let_32 : decode cX14_let 32 = .ok (.invokevirtual 249, 3) := by decide +kernel
theorem dX14_let_35 : decode cX14_let 35 = .ok (.aastore, 1) := by decide +kernel
theorem dX14_let_36 : decode cX14_let 36 = .ok (.aload_n 0, 1) := by decide +kernel
theorem dX14_let_37 : decode cX14_let 37 = .ok (.aload_n 1, 1) := by decide +kernel
theorem dX14_let_38 : decode cX14_let 38 = .ok (.getfield 190, 3) := by decide +kernel
theorem dX14_let_41 : decode cX14_let 41 = .ok (.iload 6, 2) := by decide +kernel
theorem dX14_let_43 : decode cX14_let 43 = .ok (.laload, 1) := by decide +kernel
theorem dX14_let_44 : decode cX14_let 44 = .ok (.aload 5, 2) := by decide +kernel
theorem dX14_let_46 : decode cX14_let 46 = .ok (.iload 6, 2) := by decide +kernel
theorem dX14_let_48 : decode cX14_let 48 = .ok (.aaload, 1) := by decide +kernel
theorem dX14_let_49 : decode cX14_let 49 = .ok (.invokevirtual 152, 3) := by decide +kernel
theorem dX14_let_52 : decode cX14_let 52 = .ok (.iinc 6 1, 3) := by decide +kernel
theorem dX14_let_55 : decode cX14_let 55 = .ok (.goto (-34), 3) := by decide +kernel
theorem dX14_let_58 : decode cX14_let 58 = .ok (.aload_n 0, 1) := by decide +kernel
theorem dX14_let_59 : decode cX14_let 59 = .ok (.aload_n 1, 1) := by decide +kernel
theorem dX14_let_60 : decode cX14_let 60 = .ok (.getfield 191, 3) := by decide +kernel
theorem dX14_let_63 : decode cX14_let 63 = .ok (.iconst 0, 1) := by decide +kernel
theorem dX14_let_64 : decode cX14_let 64 = .ok (.iload_n 3, 1) := by decide +kernel
theorem dX14_let_65 : decode cX14_let 65 = .ok (.aload_n 2, 1) := by decide +kernel
theorem dX14_let_66 : decode cX14_let 66 = .ok (.invokevirtual 221, 3) := by decide +kernel
theorem dX14_let_69 : decode cX14_let 69 = .ok (.astore 6, 2) := by decide +kernel
theorem dX14_let_71 : decode cX14_let 71 = .ok (.aload 6, 2) := by decide +kernel
theorem dX14_let_73 : decode cX14_let 73 = .ok (.ifnonnull 7, 3) := by decide +kernel
theorem dX14_let_76 : decode cX14_let 76 = .ok (.aconst_null, 1) := by decide +kernel
theorem dX14_let_77 : decode cX14_let 77 = .ok (.goto 14, 3) := by decide +kernel
theorem dX14_let_80 : decode cX14_let 80 = .ok (.aload_n 0, 1) := by decide +kernel
theorem dX14_let_81 : decode cX14_let 81 = .ok (.aload_n 1, 1) := by decide +kernel
theorem dX14_let_82 : decode cX14_let 82 = .ok (.getfield 191, 3) := by decide +kernel
theorem dX14_let_85 : decode cX14_let 85 = .ok (.iload_n 3, 1) := by decide +kernel
theorem dX14_let_86 : decode cX14_let 86 = .ok (.aaload, 1) := by decide +kernel
theorem dX14_let_87 : decode cX14_let 87 = .ok (.aload_n 2, 1) := by decide +kernel
theorem dX14_let_88 : decode cX14_let 88 = .ok (.invokevirtual 156, 3) := by decide +kernel
theorem dX14_let_91 : decode cX14_let 91 = .ok (.astore 7, 2) := by decide +kernel
theorem dX14_let_93 : decode cX14_let 93 = .ok (.aload_n 0, 1) := by decide +kernel
theorem dX14_let_94 : decode cX14_let 94 = .ok (.iload 4, 2) := by decide +kernel
theorem dX14_let_96 : decode cX14_let 96 = .ok (.putfield 43, 3) := by decide +kernel
theorem dX14_let_99 : decode cX14_let 99 = .ok (.aload 7, 2) := by decide +kernel
theorem dX14_let_101 : decode cX14_let 101 = .ok (.ifnonnull 7, 3) := by decide +kernel
theorem dX14_let_104 : decode cX14_let 104 = .ok (.aconst_null, 1) := by decide +kernel
theorem dX14_let_105 : decode cX14_let 105 = .ok (.goto 16, 3) := by decide +kernel
theorem dX14_let_108 : decode cX14_let 108 = .ok (.new 253, 3) := by decide +kernel
theorem dX14_let_111 : decode cX14_let 111 = .ok (.dup, 1) := by decide +kernel
theorem dX14_let_112 : decode cX14_let 112 = .ok (.aload 5, 2) := by decide +kernel
theorem dX14_let_114 : decode cX14_let 114 = .ok (.aload 6, 2) := by decide +kernel
theorem dX14_let_116 : decode cX14_let 116 = .ok (.aload 7, 2) := by decide +kernel
theorem dX14_let_118 : decode cX14_let 118 = .ok (.invokespecial 255, 3) := by decide +kernel
theorem dX14_let_121 : decode cX14_let 121 = .ok (.areturn, 1) := by decide +kernel
theorem mw_X14_let : MW yX14_let (Cond.code yX14_let cX14_let 8 (Option.some (Jvm.ClassFile.FieldType.object "LazyForge$Part"))) cX14_let 8 (Option.some (Jvm.ClassFile.FieldType.object "LazyForge$Part")) 2 := ⟨rfl, ⟨(lw_all_tbl q1310), rfl, (lw_all_tbl q188)⟩, rfl, ⟨by decide, by decide⟩, by decide +kernel⟩
theorem dX14_enter_0 : decode cX14_enter 0 = .ok (.aload_n 0, 1) := by decide +kernel
theorem dX14_enter_1 : decode cX14_enter 1 = .ok (.getfield 43, 3) := by decide +kernel
theorem dX14_enter_4 : decode cX14_enter 4 = .ok (.istore 4, 2) := by decide +kernel
theorem dX14_enter_6 : decode cX14_enter 6 = .ok (.aload_n 1, 1) := by decide +kernel
theorem dX14_enter_7 : decode cX14_enter 7 = .ok (.aload_n 2, 1) := by decide +kernel
theorem dX14_enter_8 : decode cX14_enter 8 = .ok (.arraylength, 1) := by decide +kernel
theorem dX14_enter_9 : decode cX14_enter 9 = .ok (.anewarray 22, 3) := by decide +kernel
theorem dX14_enter_12 : decode cX14_enter 12 = .ok (.putfield 146, 3) := by decide +kernel
theorem dX14_enter_15 : decode cX14_enter 15 = .ok (.iconst 0, 1) := by decide +kernel
theorem dX14_enter_16 : decode cX14_enter 16 = .ok (.istore 5, 2) := by decide +kernel
theorem dX14_enter_18 : decode cX14_enter 18 = .ok (.iload 5, 2) := by decide +kernel
theorem dX14_enter_20 : decode cX14_enter 20 = .ok (.aload_n 2, 1) := by decide +kernel
theorem dX14_enter_21 : decode cX14_enter 21 = .ok (.arraylength, 1) := by decide +kernel
theorem dX14_enter_22 : decode cX14_enter 22 = .ok (.if_icmp .ge 39, 3) := by decide +kernel
theorem dX14_enter_25 : decode cX14_enter 25 = .ok (.aload_n 1, 1) := by decide +kernel
theorem dX14_enter_26 : decode cX14_enter 26 = .ok (.getfield 146, 3) := by decide +kernel
theorem dX14_enter_29 : decode cX14_enter 29 = .ok (.iload 5, 2) := by decide +kernel
theorem dX14_enter_31 : decode cX14_enter 31 = .ok (.new 22, 3) := by decide +kernel
theorem dX14_enter_34 : decode cX14_enter 34 = .ok (.dup, 1) := by decide +kernel
theorem dX14_enter_35 : decode cX14_enter 35 = .ok (.aload_n 1, 1) := by decide +kernel
theorem dX14_enter_36 : decode cX14_enter 36 = .ok (.invokespecial 149, 3) := by decide +kernel
theorem dX14_enter_39 : decode cX14_enter 39 = .ok (.aastore, 1) := by decide +kernel
theorem dX14_enter_40 : decode cX14_enter 40 = .ok (.aload_n 0, 1) := by decide +kernel
theorem dX14_enter_41 : decode cX14_enter 41 = .ok (.aload_n 2, 1) := by decide +kernel
theorem dX14_enter_42 : decode cX14_enter 42 = .ok (.iload 5, 2) := by decide +kernel
theorem dX14_enter_44 : decode cX14_enter 44 = .ok (.laload, 1) := by decide +kernel
theorem dX14_enter_45 : decode cX14_enter 45 = .ok (.aload_n 1, 1) := by decide +kernel
theorem dX14_enter_46 : decode cX14_enter 46 = .ok (.getfield 146, 3) := by decide +kernel
theorem dX14_enter_49 : decode cX14_enter 49 = .ok (.iload 5, 2) := by decide +kernel
theorem dX14_enter_51 : decode cX14_enter 51 = .ok (.aaload, 1) := by decide +kernel
theorem dX14_enter_52 : decode cX14_enter 52 = .ok (.invokevirtual 152, 3) := by decide +kernel
theorem dX14_enter_55 : decode cX14_enter 55 = .ok (.iinc 5 1, 3) := by decide +kernel
theorem dX14_enter_58 : decode cX14_enter 58 = .ok (.goto (-40), 3) := by decide +kernel
theorem dX14_enter_61 : decode cX14_enter 61 = .ok (.aload_n 1, 1) := by decide +kernel
theorem dX14_enter_62 : decode cX14_enter 62 = .ok (.aload_n 0, 1) := by decide +kernel
theorem dX14_enter_63 : decode cX14_enter 63 = .ok (.aload_n 3, 1) := by decide +kernel
theorem dX14_enter_64 : decode cX14_enter 64 = .ok (.aload_n 1, 1) := by decide +kernel
theorem dX14_enter_65 : decode cX14_enter 65 = .ok (.invokevirtual 156, 3) := by decide +kernel
theorem dX14_enter_68 : decode cX14_enter 68 = .ok (.putfield 114, 3) := by decide +kernel
theorem dX14_enter_71 : decode cX14_enter 71 = .ok (.aload_n 0, 1) := by decide +kernel
theorem dX14_enter_72 : decode cX14_enter 72 = .ok (.iload 4, 2) := by decide +kernel
theorem dX14_enter_74 : decode cX14_enter 74 = .ok (.putfield 43, 3) := by decide +kernel
theorem dX14_enter_77 : decode cX14_enter 77 = .ok (.return_, 1) := by decide +kernel
theorem mw_X14_enter : MW yX14_enter (Cond.code yX14_enter cX14_enter 6 (Option.none : Option Jvm.ClassFile.FieldType)) cX14_enter 6 (Option.none : Option Jvm.ClassFile.FieldType) 3 := ⟨rfl, ⟨(lw_all_tbl q1281), rfl, (lw_all_tbl q188)⟩, rfl, ⟨by decide, by decide⟩, by decide +kernel⟩
theorem dX14_lambda_0 : decode cX14_lambda 0 = .ok (.new 60, 3) := by decide +kernel
theorem dX14_lambda_3 : decode cX14_lambda 3 = .ok (.dup, 1) := by decide +kernel
theorem dX14_lambda_4 : decode cX14_lambda 4 = .ok (.aload_n 0, 1) := by decide +kernel
theorem dX14_lambda_5 : decode cX14_lambda 5 = .ok (.getfield 12, 3) := by decide +kernel
theorem dX14_lambda_8 : decode cX14_lambda 8 = .ok (.getfield 69, 3) := by decide +kernel
theorem dX14_lambda_11 : decode cX14_lambda 11 = .ok (.invokevirtual 100, 3) := by decide +kernel
theorem dX14_lambda_14 : decode cX14_lambda 14 = .ok (.aload_n 1, 1) := by decide +kernel
theorem dX14_lambda_15 : decode cX14_lambda 15 = .ok (.getfield 189, 3) := by decide +kernel
theorem dX14_lambda_18 : decode cX14_lambda 18 = .ok (.aload_n 2, 1) := by decide +kernel
theorem dX14_lambda_19 : decode cX14_lambda 19 = .ok (.invokespecial 66, 3) := by decide +kernel
theorem dX14_lambda_22 : decode cX14_lambda 22 = .ok (.astore_n 3, 1) := by decide +kernel
theorem dX14_lambda_23 : decode cX14_lambda 23 = .ok (.aload_n 0, 1) := by decide +kernel
theorem dX14_lambda_24 : decode cX14_lambda 24 = .ok (.getfield 12, 3) := by decide +kernel
theorem dX14_lambda_27 : decode cX14_lambda 27 = .ok (.getfield 69, 3) := by decide +kernel
theorem dX14_lambda_30 : decode cX14_lambda 30 = .ok (.aload_n 3, 1) := by decide +kernel
theorem dX14_lambda_31 : decode cX14_lambda 31 = .ok (.invokevirtual 71, 3) := by decide +kernel
theorem dX14_lambda_34 : decode cX14_lambda 34 = .ok (.pop, 1) := by decide +kernel
theorem dX14_lambda_35 : decode cX14_lambda 35 = .ok (.aload_n 0, 1) := by decide +kernel
theorem dX14_lambda_36 : decode cX14_lambda 36 = .ok (.aload_n 3, 1) := by decide +kernel
theorem dX14_lambda_37 : decode cX14_lambda 37 = .ok (.aload_n 1, 1) := by decide +kernel
theorem dX14_lambda_38 : decode cX14_lambda 38 = .ok (.getfield 190, 3) := by decide +kernel
theorem dX14_lambda_41 : decode cX14_lambda 41 = .ok (.aload_n 1, 1) := by decide +kernel
theorem dX14_lambda_42 : decode cX14_lambda 42 = .ok (.getfield 191, 3) := by decide +kernel
theorem dX14_lambda_45 : decode cX14_lambda 45 = .ok (.iconst 0, 1) := by decide +kernel
theorem dX14_lambda_46 : decode cX14_lambda 46 = .ok (.aaload, 1) := by decide +kernel
theorem dX14_lambda_47 : decode cX14_lambda 47 = .ok (.invokevirtual 96, 3) := by decide +kernel
theorem dX14_lambda_50 : decode cX14_lambda 50 = .ok (.aload_n 3, 1) := by decide +kernel
theorem dX14_lambda_51 : decode cX14_lambda 51 = .ok (.getfield 114, 3) := by decide +kernel
theorem dX14_lambda_54 : decode cX14_lambda 54 = .ok (.ifnonnull 5, 3) := by decide +kernel
theorem dX14_lambda_57 : decode cX14_lambda 57 = .ok (.aconst_null, 1) := by decide +kernel
theorem dX14_lambda_58 : decode cX14_lambda 58 = .ok (.areturn, 1) := by decide +kernel
theorem dX14_lambda_59 : decode cX14_lambda 59 = .ok (.new 186, 3) := by decide +kernel
theorem dX14_lambda_62 : decode cX14_lambda 62 = .ok (.dup, 1) := by decide +kernel
theorem dX14_lambda_63 : decode cX14_lambda 63 = .ok (.aload_n 3, 1) := by decide +kernel
theorem dX14_lambda_64 : decode cX14_lambda 64 = .ok (.invokespecial 188, 3) := by decide +kernel
theorem dX14_lambda_67 : decode cX14_lambda 67 = .ok (.astore 4, 2) := by decide +kernel
theorem dX14_lambda_69 : decode cX14_lambda 69 = .ok (.aload_n 3, 1) := by decide +kernel
theorem dX14_lambda_70 : decode cX14_lambda 70 = .ok (.getfield 164, 3) := by decide +kernel
theorem dX14_lambda_73 : decode cX14_lambda 73 = .ok (.invokevirtual 194, 3) := by decide +kernel
theorem dX14_lambda_76 : decode cX14_lambda 76 = .ok (.ifCond .eq 6, 3) := by decide +kernel
theorem dX14_lambda_79 : decode cX14_lambda 79 = .ok (.aload 4, 2) := by decide +kernel
theorem dX14_lambda_81 : decode cX14_lambda 81 = .ok (.areturn, 1) := by decide +kernel
theorem dX14_lambda_82 : decode cX14_lambda 82 = .ok (.aload_n 3, 1) := by decide +kernel
theorem dX14_lambda_83 : decode cX14_lambda 83 = .ok (.getfield 164, 3) := by decide +kernel
theorem dX14_lambda_86 : decode cX14_lambda 86 = .ok (.invokevirtual 100, 3) := by decide +kernel
theorem dX14_lambda_89 : decode cX14_lambda 89 = .ok (.anewarray 119, 3) := by decide +kernel
theorem dX14_lambda_92 : decode cX14_lambda 92 = .ok (.astore 5, 2) := by decide +kernel
theorem dX14_lambda_94 : decode cX14_lambda 94 = .ok (.iconst 0, 1) := by decide +kernel
theorem dX14_lambda_95 : decode cX14_lambda 95 = .ok (.istore 6, 2) := by decide +kernel
theorem dX14_lambda_97 : decode cX14_lambda 97 = .ok (.iload 6, 2) := by decide +kernel
theorem dX14_lambda_99 : decode cX14_lambda 99 = .ok (.aload 5, 2) := by decide +kernel
theorem dX14_lambda_101 : decode cX14_lambda 101 = .ok (.arraylength, 1) := by decide +kernel
theorem dX14_lambda_102 : decode cX14_lambda 102 = .ok (.if_icmp .ge 31, 3) := by decide +kernel
theorem dX14_lambda_105 : decode cX14_lambda 105 = .ok (.aload 5, 2) := by decide +kernel
theorem dX14_lambda_107 : decode cX14_lambda 107 = .ok (.iload 6, 2) := by decide +kernel
theorem dX14_lambda_109 : decode cX14_lambda 109 = .ok (.aload_n 0, 1) := by decide +kernel
theorem dX14_lambda_110 : decode cX14_lambda 110 = .ok (.aload_n 3, 1) := by decide +kernel
theorem dX14_lambda_111 : decode cX14_lambda 111 = .ok (.getfield 164, 3) := by decide +kernel
theorem dX14_lambda_114 : decode cX14_lambda 114 = .ok (.iload 6, 2) := by decide +kernel
theorem dX14_lambda_116 : decode cX14_lambda 116 = .ok (.invokevirtual 84, 3) := by decide +kernel
theorem dX14_lambda_119 : decode cX14_lambda 119 = .ok (.checkcast 22, 3) := by decide +kernel
theorem dX14_lambda_122 : decode cX14_lambda 122 = .ok (.aload_n 2, 1) := by decide +kernel
theorem dX14_lambda_123 : decode cX14_lambda 123 = .ok (.invokevirtual 182, 3) := by decide +kernel
theorem dX14_lambda_126 : decode cX14_lambda 126 = .ok (.aastore, 1) := by decide +kernel
theorem dX14_lambda_127 : decode cX14_lambda 127 = .ok (.iinc 6 1, 3) := by decide +kernel
theorem dX14_lambda_130 : decode cX14_lambda 130 = .ok (.goto (-33), 3) := by decide +kernel
theorem dX14_lambda_133 : decode cX14_lambda 133 = .ok (.new 198, 3) := by decide +kernel
theorem dX14_lambda_136 : decode cX14_lambda 136 = .ok (.dup, 1) := by decide +kernel
theorem dX14_lambda_137 : decode cX14_lambda 137 = .ok (.aload 4, 2) := by decide +kernel
theorem dX14_lambda_139 : decode cX14_lambda 139 = .ok (.aload 5, 2) := by decide +kernel
theorem dX14_lambda_141 : decode cX14_lambda 141 = .ok (.invokespecial 200, 3) := by decide +kernel
theorem dX14_lambda_144 : decode cX14_lambda 144 = .ok (.areturn, 1) := by decide +kernel
theorem mw_X14_lambda : MW yX14_lambda (Cond.code yX14_lambda cX14_lambda 7 (Option.some (Jvm.ClassFile.FieldType.object "LazyForge$Part"))) cX14_lambda 7 (Option.some (Jvm.ClassFile.FieldType.object "LazyForge$Part")) 2 := ⟨rfl, ⟨(lw_all_tbl q1356), rfl, (lw_all_tbl q188)⟩, rfl, ⟨by decide, by decide⟩, by decide +kernel⟩
theorem dX14_part_0 : decode cX14_part 0 = .ok (.aload_n 1, 1) := by decide +kernel
theorem dX14_part_1 : decode cX14_part 1 = .ok (.getfield 203, 3) := by decide +kernel
theorem dX14_part_4 : decode cX14_part 4 = .ok (.tableswitch 264 0 7 #[48, 55, 62, 69, 126, 183, 242, 249], 48) := by decide +kernel
theorem dX14_part_52 : decode cX14_part 52 = .ok (.aload_n 0, 1) := by decide +kernel
theorem dX14_part_53 : decode cX14_part 53 = .ok (.aload_n 1, 1) := by decide +kernel
theorem dX14_part_54 : decode cX14_part 54 = .ok (.aload_n 2, 1) := by decide +kernel
theorem dX14_part_55 : decode cX14_part 55 = .ok (.invokevirtual 204, 3) := by decide +kernel
theorem dX14_part_58 : decode cX14_part 58 = .ok (.areturn, 1) := by decide +kernel
theorem dX14_part_59 : decode cX14_part 59 = .ok (.aload_n 0, 1) := by decide +kernel
theorem dX14_part_60 : decode cX14_part 60 = .ok (.aload_n 1, 1) := by decide +kernel
theorem dX14_part_61 : decode cX14_part 61 = .ok (.aload_n 2, 1) := by decide +kernel
theorem dX14_part_62 : decode cX14_part 62 = .ok (.invokevirtual 207, 3) := by decide +kernel
theorem dX14_part_65 : decode cX14_part 65 = .ok (.areturn, 1) := by decide +kernel
theorem dX14_part_66 : decode cX14_part 66 = .ok (.aload_n 0, 1) := by decide +kernel
theorem dX14_part_67 : decode cX14_part 67 = .ok (.aload_n 1, 1) := by decide +kernel
theorem dX14_part_68 : decode cX14_part 68 = .ok (.aload_n 2, 1) := by decide +kernel
theorem dX14_part_69 : decode cX14_part 69 = .ok (.invokevirtual 210, 3) := by decide +kernel
theorem dX14_part_72 : decode cX14_part 72 = .ok (.areturn, 1) := by decide +kernel
theorem dX14_part_73 : decode cX14_part 73 = .ok (.aload_n 0, 1) := by decide +kernel
theorem dX14_part_74 : decode cX14_part 74 = .ok (.aload_n 1, 1) := by decide +kernel
theorem dX14_part_75 : decode cX14_part 75 = .ok (.getfield 191, 3) := by decide +kernel
theorem dX14_part_78 : decode cX14_part 78 = .ok (.iconst 0, 1) := by decide +kernel
theorem dX14_part_79 : decode cX14_part 79 = .ok (.aaload, 1) := by decide +kernel
theorem dX14_part_80 : decode cX14_part 80 = .ok (.aload_n 2, 1) := by decide +kernel
theorem dX14_part_81 : decode cX14_part 81 = .ok (.invokevirtual 156, 3) := by decide +kernel
theorem dX14_part_84 : decode cX14_part 84 = .ok (.astore_n 3, 1) := by decide +kernel
theorem dX14_part_85 : decode cX14_part 85 = .ok (.aload_n 3, 1) := by decide +kernel
theorem dX14_part_86 : decode cX14_part 86 = .ok (.ifnonnull 7, 3) := by decide +kernel
theorem dX14_part_89 : decode cX14_part 89 = .ok (.aconst_null, 1) := by decide +kernel
theorem dX14_part_90 : decode cX14_part 90 = .ok (.goto 14, 3) := by decide +kernel
theorem dX14_part_93 : decode cX14_part 93 = .ok (.aload_n 0, 1) := by decide +kernel
theorem dX14_part_94 : decode cX14_part 94 = .ok (.aload_n 1, 1) := by decide +kernel
theorem dX14_part_95 : decode cX14_part 95 = .ok (.getfield 191, 3) := by decide +kernel
theorem dX14_part_98 : decode cX14_part 98 = .ok (.iconst 1, 1) := by decide +kernel
theorem dX14_part_99 : decode cX14_part 99 = .ok (.aaload, 1) := by decide +kernel
theorem dX14_part_100 : decode cX14_part 100 = .ok (.aload_n 2, 1) := by decide +kernel
theorem dX14_part_101 : decode cX14_part 101 = .ok (.invokevirtual 156, 3) := by decide +kernel
theorem dX14_part_104 : decode cX14_part 104 = .ok (.astore 4, 2) := by decide +kernel
theorem dX14_part_106 : decode cX14_part 106 = .ok (.aload 4, 2) := by decide +kernel
theorem dX14_part_108 : decode cX14_part 108 = .ok (.ifnonnull 7, 3) := by decide +kernel
theorem dX14_part_111 : decode cX14_part 111 = .ok (.aconst_null, 1) := by decide +kernel
theorem dX14_part_112 : decode cX14_part 112 = .ok (.goto 17, 3) := by decide +kernel
theorem dX14_part_115 : decode cX14_part 115 = .ok (.new 213, 3) := by decide +kernel
theorem dX14_part_118 : decode cX14_part 118 = .ok (.dup, 1) := by decide +kernel
theorem dX14_part_119 : decode cX14_part 119 = .ok (.aload_n 1, 1) := by decide +kernel
theorem dX14_part_120 : decode cX14_part 120 = .ok (.getfield 215, 3) := by decide +kernel
theorem dX14_part_123 : decode cX14_part 123 = .ok (.aload_n 3, 1) := by decide +kernel
theorem dX14_part_124 : decode cX14_part 124 = .ok (.aload 4, 2) := by decide +kernel
theorem dX14_part_126 : decode cX14_part 126 = .ok (.invokespecial 218, 3) := by decide +kernel
theorem dX14_part_129 : decode cX14_part 129 = .ok (.areturn, 1) := by decide +kernel
theorem dX14_part_130 : decode cX14_part 130 = .ok (.aload_n 0, 1) := by decide +kernel
theorem dX14_part_131 : decode cX14_part 131 = .ok (.aload_n 1, 1) := by decide +kernel
theorem dX14_part_132 : decode cX14_part 132 = .ok (.getfield 191, 3) := by decide +kernel
theorem dX14_part_135 : decode cX14_part 135 = .ok (.iconst 0, 1) := by decide +kernel
theorem dX14_part_136 : decode cX14_part 136 = .ok (.aaload, 1) := by decide +kernel
theorem dX14_part_137 : decode cX14_part 137 = .ok (.aload_n 2, 1) := by decide +kernel
theorem dX14_part_138 : decode cX14_part 138 = .ok (.invokevirtual 156, 3) := by decide +kernel
theorem dX14_part_141 : decode cX14_part 141 = .ok (.astore_n 3, 1) := by decide +kernel
theorem dX14_part_142 : decode cX14_part 142 = .ok (.aload_n 3, 1) := by decide +kernel
theorem dX14_part_143 : decode cX14_part 143 = .ok (.ifnonnull 7, 3) := by decide +kernel
theorem dX14_part_146 : decode cX14_part 146 = .ok (.aconst_null, 1) := by decide +kernel
theorem dX14_part_147 : decode cX14_part 147 = .ok (.goto 18, 3) := by decide +kernel
theorem dX14_part_150 : decode cX14_part 150 = .ok (.aload_n 0, 1) := by decide +kernel
theorem dX14_part_151 : decode cX14_part 151 = .ok (.aload_n 1, 1) := by decide +kernel
theorem dX14_part_152 : decode cX14_part 152 = .ok (.getfield 191, 3) := by decide +kernel
theorem dX14_part_155 : decode cX14_part 155 = .ok (.iconst 1, 1) := by decide +kernel
theorem dX14_part_156 : decode cX14_part 156 = .ok (.aload_n 1, 1) := by decide +kernel
theorem dX14_part_157 : decode cX14_part 157 = .ok (.getfield 191, 3) := by decide +kernel
theorem dX14_part_160 : decode cX14_part 160 = .ok (.arraylength, 1) := by decide +kernel
theorem dX14_part_161 : decode cX14_part 161 = .ok (.aload_n 2, 1) := by decide +kernel
theorem dX14_part_162 : decode cX14_part 162 = .ok (.invokevirtual 221, 3) := by decide +kernel
theorem dX14_part_165 : decode cX14_part 165 = .ok (.astore 4, 2) := by decide +kernel
theorem dX14_part_167 : decode cX14_part 167 = .ok (.aload 4, 2) := by decide +kernel
theorem dX14_part_169 : decode cX14_part 169 = .ok (.ifnonnull 7, 3) := by decide +kernel
theorem dX14_part_172 : decode cX14_part 172 = .ok (.aconst_null, 1) := by decide +kernel
theorem dX14_part_173 : decode cX14_part 173 = .ok (.goto 13, 3) := by decide +kernel
theorem dX14_part_176 : decode cX14_part 176 = .ok (.new 198, 3) := by decide +kernel
theorem dX14_part_179 : decode cX14_part 179 = .ok (.dup, 1) := by decide +kernel
theorem dX14_part_180 : decode cX14_part 180 = .ok (.aload_n 3, 1) := by decide +kernel
theorem dX14_part_181 : decode cX14_part 181 = .ok (.aload 4, 2) := by decide +kernel
theorem dX14_part_183 : decode cX14_part 183 = .ok (.invokespecial 200, 3) := by decide +kernel
theorem dX14_part_186 : decode cX14_part 186 = .ok (.areturn, 1) := by decide +kernel
theorem dX14_part_187 : decode cX14_part 187 = .ok (.aload_n 0, 1) := by decide +kernel
theorem dX14_part_188 : decode cX14_part 188 = .ok (.aload_n 1, 1) := by decide +kernel
theorem dX14_part_189 : decode cX14_part 189 = .ok (.getfield 191, 3) := by decide +kernel
theorem dX14_part_192 : decode cX14_part 192 = .ok (.iconst 0, 1) := by decide +kernel
theorem dX14_part_193 : decode cX14_part 193 = .ok (.aload_n 1, 1) := by decide +kernel
theorem dX14_part_194 : decode cX14_part 194 = .ok (.getfield 191, 3) := by decide +kernel
theorem dX14_part_197 : decode cX14_part 197 = .ok (.arraylength, 1) := by decide +kernel
theorem dX14_part_198 : decode cX14_part 198 = .ok (.aload_n 2, 1) := by decide +kernel
theorem dX14_part_199 : decode cX14_part 199 = .ok (.invokevirtual 221, 3) := by decide +kernel
theorem dX14_part_202 : decode cX14_part 202 = .ok (.astore_n 3, 1) := by decide +kernel
theorem dX14_part_203 : decode cX14_part 203 = .ok (.aload_n 3, 1) := by decide +kernel
theorem dX14_part_204 : decode cX14_part 204 = .ok (.ifnonnull 7, 3) := by decide +kernel
theorem dX14_part_207 : decode cX14_part 207 = .ok (.aconst_null, 1) := by decide +kernel
theorem dX14_part_208 : decode cX14_part 208 = .ok (.goto 37, 3) := by decide +kernel
theorem dX14_part_211 : decode cX14_part 211 = .ok (.aload_n 3, 1) := by decide +kernel
theorem dX14_part_212 : decode cX14_part 212 = .ok (.arraylength, 1) := by decide +kernel
theorem dX14_part_213 : decode cX14_part 213 = .ok (.ifCond .ne 20, 3) := by decide +kernel
theorem dX14_part_216 : decode cX14_part 216 = .ok (.new 224, 3) := by decide +kernel
theorem dX14_part_219 : decode cX14_part 219 = .ok (.dup, 1) := by decide +kernel
theorem dX14_part_220 : decode cX14_part 220 = .ok (.aload_n 1, 1) := by decide +kernel
theorem dX14_part_221 : decode cX14_part 221 = .ok (.getfield 215, 3) := by decide +kernel
theorem dX14_part_224 : decode cX14_part 224 = .ok (.invokestatic 226, 3) := by decide +kernel
theorem dX14_part_227 : decode cX14_part 227 = .ok (.invokespecial 230, 3) := by decide +kernel
theorem dX14_part_230 : decode cX14_part 230 = .ok (.goto 15, 3) := by decide +kernel
theorem dX14_part_233 : decode cX14_part 233 = .ok (.new 233, 3) := by decide +kernel
theorem dX14_part_236 : decode cX14_part 236 = .ok (.dup, 1) := by decide +kernel
theorem dX14_part_237 : decode cX14_part 237 = .ok (.aload_n 1, 1) := by decide +kernel
theorem dX14_part_238 : decode cX14_part 238 = .ok (.getfield 215, 3) := by decide +kernel
theorem dX14_part_241 : decode cX14_part 241 = .ok (.aload_n 3, 1) := by decide +kernel
theorem dX14_part_242 : decode cX14_part 242 = .ok (.invokespecial 235, 3) := by decide +kernel
theorem dX14_part_245 : decode cX14_part 245 = .ok (.areturn, 1) := by decide +kernel
theorem dX14_part_246 : decode cX14_part 246 = .ok (.aload_n 0, 1) := by decide +kernel
theorem dX14_part_247 : decode cX14_part 247 = .ok (.aload_n 1, 1) := by decide +kernel
theorem dX14_part_248 : decode cX14_part 248 = .ok (.aload_n 2, 1) := by decide +kernel
theorem dX14_part_249 : decode cX14_part 249 = .ok (.invokevirtual 238, 3) := by decide +kernel
theorem dX14_part_252 : decode cX14_part 252 = .ok (.areturn, 1) := by decide +kernel
theorem dX14_part_253 : decode cX14_part 253 = .ok (.new 224, 3) := by decide +kernel
theorem dX14_part_256 : decode cX14_part 256 = .ok (.dup, 1) := by decide +kernel
theorem dX14_part_257 : decode cX14_part 257 = .ok (.aload_n 1, 1) := by decide +kernel
theorem dX14_part_258 : decode cX14_part 258 = .ok (.getfield 240, 3) := by decide +kernel
theorem dX14_part_261 : decode cX14_part 261 = .ok (.invokestatic 243, 3) := by decide +kernel
theorem dX14_part_264 : decode cX14_part 264 = .ok (.invokespecial 230, 3) := by decide +kernel
theorem dX14_part_267 : decode cX14_part 267 = .ok (.areturn, 1) := by decide +kernel
theorem dX14_part_268 : decode cX14_part 268 = .ok (.new 246, 3) := by decide +kernel
theorem dX14_part_271 : decode cX14_part 271 = .ok (.dup, 1) := by decide +kernel
theorem dX14_part_272 : decode cX14_part 272 = .ok (.invokespecial 248, 3) := by decide +kernel
theorem dX14_part_275 : decode cX14_part 275 = .ok (.areturn, 1) := by decide +kernel
theorem mw_X14_part : MW yX14_part (Cond.code yX14_part cX14_part 5 (Option.some (Jvm.ClassFile.FieldType.object "LazyForge$Part"))) cX14_part 5 (Option.some (Jvm.ClassFile.FieldType.object "LazyForge$Part")) 2 := ⟨rfl, ⟨(lw_all_tbl q1306), rfl, (lw_all_tbl q188)⟩, rfl, ⟨by decide, by decide⟩, by decide +kernel⟩
theorem dX14_choice_0 : decode cX14_choice 0 = .ok (.aload_n 0, 1) := by decide +kernel
theorem dX14_choice_1 : decode cX14_choice 1 = .ok (.aload_n 1, 1) := by decide +kernel
theorem dX14_choice_2 : decode cX14_choice 2 = .ok (.getfield 191, 3) := by decide +kernel
theorem dX14_choice_5 : decode cX14_choice 5 = .ok (.iconst 0, 1) := by decide +kernel
theorem dX14_choice_6 : decode cX14_choice 6 = .ok (.aaload, 1) := by decide +kernel
theorem dX14_choice_7 : decode cX14_choice 7 = .ok (.aload_n 2, 1) := by decide +kernel
theorem dX14_choice_8 : decode cX14_choice 8 = .ok (.invokevirtual 156, 3) := by decide +kernel
theorem dX14_choice_11 : decode cX14_choice 11 = .ok (.astore_n 3, 1) := by decide +kernel
theorem dX14_choice_12 : decode cX14_choice 12 = .ok (.aload_n 1, 1) := by decide +kernel
theorem dX14_choice_13 : decode cX14_choice 13 = .ok (.getfield 240, 3) := by decide +kernel
theorem dX14_choice_16 : decode cX14_choice 16 = .ok (.anewarray 119, 3) := by decide +kernel
theorem dX14_choice_19 : decode cX14_choice 19 = .ok (.astore 4, 2) := by decide +kernel
theorem dX14_choice_21 : decode cX14_choice 21 = .ok (.aload_n 1, 1) := by decide +kernel
theorem dX14_choice_22 : decode cX14_choice 22 = .ok (.getfield 240, 3) := by decide +kernel
theorem dX14_choice_25 : decode cX14_choice 25 = .ok (.anewarray 258, 3) := by decide +kernel
theorem dX14_choice_28 : decode cX14_choice 28 = .ok (.astore 5, 2) := by decide +kernel
theorem dX14_choice_30 : decode cX14_choice 30 = .ok (.iconst 0, 1) := by decide +kernel
theorem dX14_choice_31 : decode cX14_choice 31 = .ok (.istore 6, 2) := by decide +kernel
theorem dX14_choice_33 : decode cX14_choice 33 = .ok (.iload 6, 2) := by decide +kernel
theorem dX14_choice_35 : decode cX14_choice 35 = .ok (.aload_n 1, 1) := by decide +kernel
theorem dX14_choice_36 : decode cX14_choice 36 = .ok (.getfield 240, 3) := by decide +kernel
theorem dX14_choice_39 : decode cX14_choice 39 = .ok (.if_icmp .ge 120, 3) := by decide +kernel
theorem dX14_choice_42 : decode cX14_choice 42 = .ok (.aload_n 3, 1) := by decide +kernel
theorem dX14_choice_43 : decode cX14_choice 43 = .ok (.ifnull 116, 3) := by decide +kernel
theorem dX14_choice_46 : decode cX14_choice 46 = .ok (.aload_n 0, 1) := by decide +kernel
theorem dX14_choice_47 : decode cX14_choice 47 = .ok (.getfield 43, 3) := by decide +kernel
theorem dX14_choice_50 : decode cX14_choice 50 = .ok (.istore 7, 2) := by decide +kernel
theorem dX14_choice_52 : decode cX14_choice 52 = .ok (.aload_n 1, 1) := by decide +kernel
theorem dX14_choice_53 : decode cX14_choice 53 = .ok (.getfield 259, 3) := by decide +kernel
theorem dX14_choice_56 : decode cX14_choice 56 = .ok (.iload 6, 2) := by decide +kernel
theorem dX14_choice_58 : decode cX14_choice 58 = .ok (.aaload, 1) := by decide +kernel
theorem dX14_choice_59 : decode cX14_choice 59 = .ok (.arraylength, 1) := by decide +kernel
theorem dX14_choice_60 : decode cX14_choice 60 = .ok (.anewarray 22, 3) := by decide +kernel
theorem dX14_choice_63 : decode cX14_choice 63 = .ok (.astore 8, 2) := by decide +kernel
theorem dX14_choice_65 : decode cX14_choice 65 = .ok (.iconst 0, 1) := by decide +kernel
theorem dX14_choice_66 : decode cX14_choice 66 = .ok (.istore 9, 2) := by decide +kernel
theorem dX14_choice_68 : decode cX14_choice 68 = .ok (.iload 9, 2) := by decide +kernel
theorem dX14_choice_70 : decode cX14_choice 70 = .ok (.aload 8, 2) := by decide +kernel
theorem dX14_choice_72 : decode cX14_choice 72 = .ok (.arraylength, 1) := by decide +kernel
theorem dX14_choice_73 : decode cX14_choice 73 = .ok (.if_icmp .ge 37, 3) := by decide +kernel
theorem dX14_choice_76 : decode cX14_choice 76 = .ok (.aload 8, 2) := by decide +kernel
theorem dX14_choice_78 : decode cX14_choice 78 = .ok (.iload 9, 2) := by decide +kernel
theorem dX14_choice_80 : decode cX14_choice 80 = .ok (.aload_n 2, 1) := by decide +kernel
theorem dX14_choice_81 : decode cX14_choice 81 = .ok (.invokevirtual 249, 3) := by decide +kernel
theorem dX14_choice_84 : decode cX14_choice 84 = .ok (.aastore, 1) := by decide +kernel
theorem dX14_choice_85 : decode cX14_choice 85 = .ok (.aload_n 0, 1) := by decide +kernel
theorem dX14_choice_86 : decode cX14_choice 86 = .ok (.aload_n 1, 1) := by decide +kernel
theorem dX14_choice_87 : decode cX14_choice 87 = .ok (.getfield 259, 3) := by decide +kernel
theorem dX14_choice_90 : decode cX14_choice 90 = .ok (.iload 6, 2) := by decide +kernel
theorem dX14_choice_92 : decode cX14_choice 92 = .ok (.aaload, 1) := by decide +kernel
theorem dX14_choice_93 : decode cX14_choice 93 = .ok (.iload 9, 2) := by decide +kernel
theorem dX14_choice_95 : decode cX14_choice 95 = .ok (.laload, 1) := by decide +kernel
theorem dX14_choice_96 : decode cX14_choice 96 = .ok (.aload 8, 2) := by decide +kernel
theorem dX14_choice_98 : decode cX14_choice 98 = .ok (.iload 9, 2) := by decide +kernel
theorem dX14_choice_100 : decode cX14_choice 100 = .ok (.aaload, 1) := by decide +kernel
theorem dX14_choice_101 : decode cX14_choice 101 = .ok (.invokevirtual 152, 3) := by decide +kernel
theorem dX14_choice_104 : decode cX14_choice 104 = .ok (.iinc 9 1, 3) := by decide +kernel
theorem dX14_choice_107 : decode cX14_choice 107 = .ok (.goto (-39), 3) := by decide +kernel
theorem dX14_choice_110 : decode cX14_choice 110 = .ok (.aload 5, 2) := by decide +kernel
theorem dX14_choice_112 : decode cX14_choice 112 = .ok (.iload 6, 2) := by decide +kernel
theorem dX14_choice_114 : decode cX14_choice 114 = .ok (.aload 8, 2) := by decide +kernel
theorem dX14_choice_116 : decode cX14_choice 116 = .ok (.aastore, 1) := by decide +kernel
theorem dX14_choice_117 : decode cX14_choice 117 = .ok (.aload_n 0, 1) := by decide +kernel
theorem dX14_choice_118 : decode cX14_choice 118 = .ok (.aload_n 1, 1) := by decide +kernel
theorem dX14_choice_119 : decode cX14_choice 119 = .ok (.getfield 191, 3) := by decide +kernel
theorem dX14_choice_122 : decode cX14_choice 122 = .ok (.iload 6, 2) := by decide +kernel
theorem dX14_choice_124 : decode cX14_choice 124 = .ok (.iconst 1, 1) := by decide +kernel
theorem dX14_choice_125 : decode cX14_choice 125 = .ok (.iadd, 1) := by decide +kernel
theorem dX14_choice_126 : decode cX14_choice 126 = .ok (.aaload, 1) := by decide +kernel
theorem dX14_choice_127 : decode cX14_choice 127 = .ok (.aload_n 2, 1) := by decide +kernel
theorem dX14_choice_128 : decode cX14_choice 128 = .ok (.invokevirtual 156, 3) := by decide +kernel
theorem dX14_choice_131 : decode cX14_choice 131 = .ok (.astore 9, 2) := by decide +kernel
theorem dX14_choice_133 : decode cX14_choice 133 = .ok (.aload_n 0, 1) := by decide +kernel
theorem dX14_choice_134 : decode cX14_choice 134 = .ok (.iload 7, 2) := by decide +kernel
theorem dX14_choice_136 : decode cX14_choice 136 = .ok (.putfield 43, 3) := by decide +kernel
theorem dX14_choice_139 : decode cX14_choice 139 = .ok (.aload 9, 2) := by decide +kernel
theorem dX14_choice_141 : decode cX14_choice 141 = .ok (.ifnonnull 5, 3) := by decide +kernel
theorem dX14_choice_144 : decode cX14_choice 144 = .ok (.aconst_null, 1) := by decide +kernel
theorem dX14_choice_145 : decode cX14_choice 145 = .ok (.areturn, 1) := by decide +kernel
theorem dX14_choice_146 : decode cX14_choice 146 = .ok (.aload 4, 2) := by decide +kernel
theorem dX14_choice_148 : decode cX14_choice 148 = .ok (.iload 6, 2) := by decide +kernel
theorem dX14_choice_150 : decode cX14_choice 150 = .ok (.aload 9, 2) := by decide +kernel
theorem dX14_choice_152 : decode cX14_choice 152 = .ok (.aastore, 1) := by decide +kernel
theorem dX14_choice_153 : decode cX14_choice 153 = .ok (.iinc 6 1, 3) := by decide +kernel
theorem dX14_choice_156 : decode cX14_choice 156 = .ok (.goto (-123), 3) := by decide +kernel
theorem dX14_choice_159 : decode cX14_choice 159 = .ok (.aload_n 3, 1) := by decide +kernel
theorem dX14_choice_160 : decode cX14_choice 160 = .ok (.ifnonnull 7, 3) := by decide +kernel
theorem dX14_choice_163 : decode cX14_choice 163 = .ok (.aconst_null, 1) := by decide +kernel
theorem dX14_choice_164 : decode cX14_choice 164 = .ok (.goto 23, 3) := by decide +kernel
theorem dX14_choice_167 : decode cX14_choice 167 = .ok (.new 262, 3) := by decide +kernel
theorem dX14_choice_170 : decode cX14_choice 170 = .ok (.dup, 1) := by decide +kernel
theorem dX14_choice_171 : decode cX14_choice 171 = .ok (.aload_n 3, 1) := by decide +kernel
theorem dX14_choice_172 : decode cX14_choice 172 = .ok (.aload_n 1, 1) := by decide +kernel
theorem dX14_choice_173 : decode cX14_choice 173 = .ok (.getfield 264, 3) := by decide +kernel
theorem dX14_choice_176 : decode cX14_choice 176 = .ok (.aload_n 1, 1) := by decide +kernel
theorem dX14_choice_177 : decode cX14_choice 177 = .ok (.getfield 267, 3) := by decide +kernel
theorem dX14_choice_180 : decode cX14_choice 180 = .ok (.aload 5, 2) := by decide +kernel
theorem dX14_choice_182 : decode cX14_choice 182 = .ok (.aload 4, 2) := by decide +kernel
theorem dX14_choice_184 : decode cX14_choice 184 = .ok (.invokespecial 270, 3) := by decide +kernel
theorem dX14_choice_187 : decode cX14_choice 187 = .ok (.areturn, 1) := by decide +kernel
theorem mw_X14_choice : MW yX14_choice (Cond.code yX14_choice cX14_choice 10 (Option.some (Jvm.ClassFile.FieldType.object "LazyForge$Part"))) cX14_choice 10 (Option.some (Jvm.ClassFile.FieldType.object "LazyForge$Part")) 2 := ⟨rfl, ⟨(lw_all_tbl q1483), rfl, (lw_all_tbl q188)⟩, rfl, ⟨by decide, by decide⟩, by decide +kernel⟩
def GR_rs (g : gC) (ts : TS) (d : Nat) (rc : Rc) : Prop := (∀ (l0 : Int) (l1 : Int) (l2 : Int), SF g yX14_choice (Cond.code yX14_choice cX14_choice 10 (Option.some (Jvm.ClassFile.FieldType.object "LazyForge$Part"))) (Option.some (Jvm.ClassFile.FieldType.object "LazyForge$Part")) d [vA g l0, vA g l1, vA g l2] (fun h => (h, ts)) (rc 0 l0 l1 l2 0 0)) ∧ (∀ (l0 : Int) (l1 : Int) (l2 : Int) (l3 : Int), SF g yX14_enter (Cond.code yX14_enter cX14_enter 6 (Option.none : Option Jvm.ClassFile.FieldType)) (Option.none : Option Jvm.ClassFile.FieldType) d [vA g l0, vA g l1, vA g l2, vA g l3] (fun h => (h, ts)) (rc 1 l0 l1 l2 l3 0)) ∧ (∀ (l0 : Int) (l1 : Int) (l2 : Int), SF g yX14_lambda (Cond.code yX14_lambda cX14_lambda 7 (Option.some (Jvm.ClassFile.FieldType.object "LazyForge$Part"))) (Option.some (Jvm.ClassFile.FieldType.object "LazyForge$Part")) d [vA g l0, vA g l1, vA g l2] (fun h => (h, ts)) (rc 2 l0 l1 l2 0 0)) ∧ (∀ (l0 : Int) (l1 : Int) (l2 : Int), SF g yX14_let (Cond.code yX14_let cX14_let 8 (Option.some (Jvm.ClassFile.FieldType.object "LazyForge$Part"))) (Option.some (Jvm.ClassFile.FieldType.object "LazyForge$Part")) d [vA g l0, vA g l1, vA g l2] (fun h => (h, ts)) (rc 3 l0 l1 l2 0 0)) ∧ (∀ (l0 : Int) (l1 : Int) (l2 : Int), SF g yX14_part (Cond.code yX14_part cX14_part 5 (Option.some (Jvm.ClassFile.FieldType.object "LazyForge$Part"))) (Option.some (Jvm.ClassFile.FieldType.object "LazyForge$Part")) d [vA g l0, vA g l1, vA g l2] (fun h => (h, ts)) (rc 4 l0 l1 l2 0 0)) ∧ (∀ (l0 : Int) (l1 : Int) (l2 : Int) (l3 : Int) (l4 : Int), R32 l2 → R32 l3 → SF g yX14_parts (Cond.code yX14_parts cX14_parts 8 (Option.some (Jvm.ClassFile.FieldType.array (Jvm.ClassFile.FieldType.object "LazyForge$Part")))) (Option.some (Jvm.ClassFile.FieldType.array (Jvm.ClassFile.FieldType.object "LazyForge$Part"))) d [vA g l0, vA g l1, vI l2, vI l3, vA g l4] (fun h => (h, ts)) (rc 5 l0 l1 l2 l3 l4))
theorem gr_rs_0 {g : gC} {ts : TS} {d : Nat} {rc : Rc} (h : GR_rs g ts d rc) : (∀ (l0 : Int) (l1 : Int) (l2 : Int), SF g yX14_choice (Cond.code yX14_choice cX14_choice 10 (Option.some (Jvm.ClassFile.FieldType.object "LazyForge$Part"))) (Option.some (Jvm.ClassFile.FieldType.object "LazyForge$Part")) d [vA g l0, vA g l1, vA g l2] (fun h => (h, ts)) (rc 0 l0 l1 l2 0 0)) := h.1
theorem gr_rs_1 {g : gC} {ts : TS} {d : Nat} {rc : Rc} (h : GR_rs g ts d rc) : (∀ (l0 : Int) (l1 : Int) (l2 : Int) (l3 : Int), SF g yX14_enter (Cond.code yX14_enter cX14_enter 6 (Option.none : Option Jvm.ClassFile.FieldType)) (Option.none : Option Jvm.ClassFile.FieldType) d [vA g l0, vA g l1, vA g l2, vA g l3] (fun h => (h, ts)) (rc 1 l0 l1 l2 l3 0)) := h.2.1
theorem gr_rs_2 {g : gC} {ts : TS} {d : Nat} {rc : Rc} (h : GR_rs g ts d rc) : (∀ (l0 : Int) (l1 : Int) (l2 : Int), SF g yX14_lambda (Cond.code yX14_lambda cX14_lambda 7 (Option.some (Jvm.ClassFile.FieldType.object "LazyForge$Part"))) (Option.some (Jvm.ClassFile.FieldType.object "LazyForge$Part")) d [vA g l0, vA g l1, vA g l2] (fun h => (h, ts)) (rc 2 l0 l1 l2 0 0)) := h.2.2.1
theorem gr_rs_3 {g : gC} {ts : TS} {d : Nat} {rc : Rc} (h : GR_rs g ts d rc) : (∀ (l0 : Int) (l1 : Int) (l2 : Int), SF g yX14_let (Cond.code yX14_let cX14_let 8 (Option.some (Jvm.ClassFile.FieldType.object "LazyForge$Part"))) (Option.some (Jvm.ClassFile.FieldType.object "LazyForge$Part")) d [vA g l0, vA g l1, vA g l2] (fun h => (h, ts)) (rc 3 l0 l1 l2 0 0)) := h.2.2.2.1
theorem gr_rs_4 {g : gC} {ts : TS} {d : Nat} {rc : Rc} (h : GR_rs g ts d rc) : (∀ (l0 : Int) (l1 : Int) (l2 : Int), SF g yX14_part (Cond.code yX14_part cX14_part 5 (Option.some (Jvm.ClassFile.FieldType.object "LazyForge$Part"))) (Option.some (Jvm.ClassFile.FieldType.object "LazyForge$Part")) d [vA g l0, vA g l1, vA g l2] (fun h => (h, ts)) (rc 4 l0 l1 l2 0 0)) := h.2.2.2.2.1
theorem gr_rs_5 {g : gC} {ts : TS} {d : Nat} {rc : Rc} (h : GR_rs g ts d rc) : (∀ (l0 : Int) (l1 : Int) (l2 : Int) (l3 : Int) (l4 : Int), R32 l2 → R32 l3 → SF g yX14_parts (Cond.code yX14_parts cX14_parts 8 (Option.some (Jvm.ClassFile.FieldType.array (Jvm.ClassFile.FieldType.object "LazyForge$Part")))) (Option.some (Jvm.ClassFile.FieldType.array (Jvm.ClassFile.FieldType.object "LazyForge$Part"))) d [vA g l0, vA g l1, vI l2, vI l3, vA g l4] (fun h => (h, ts)) (rc 5 l0 l1 l2 l3 l4)) := h.2.2.2.2.2
abbrev okb_X14_parts_11 (x : Int × Int × Int × Int × Int × Int) : Prop := R32 x.2.2.1 ∧ 0 < x.2.2.2.2.1 ∧ R32 x.2.2.2.2.2
abbrev lvb_X14_parts_11 (Γ : Gm) (x : Int × Int × Int × Int × Int × Int) : List (Nat × Value) := [(0, vA (mg Γ) x.1), (1, vA (mg Γ) x.2.1), (2, vI x.2.2.1), (4, vA (mg Γ) x.2.2.2.1), (5, vA (mg Γ) x.2.2.2.2.1), (6, vI x.2.2.2.2.2)]
noncomputable def b_X14_parts_11b (rc : Rc) {A : Type} (k_38 : Mo CH A) (k_53 : Int → Mo CH A) (l0 : Int) (l1 : Int) (l2 : Int) (l4 : Int) (l5 : Int) (l6 : Int) : Mo CH ((Int × Int × Int × Int × Int × Int) ⊕ A) :=
  bnd (aln l5) fun v1 =>
  if v1 ≤ l6 then
    lo (k_53 l5)
  else
    bnd (ald 6 l1 (w32 (l2 + l6))) fun v2 =>
    bnd (isk 114 l0) fun _ =>
    bnd (rc 4 l0 v2 l4 0 0) fun v3 =>
    if ¬ v3 = 0 then
      bnd (asq 5 l5 l6 v3) fun _ =>
      pr (.inl (l0, l1, l2, l4, l5, (w32 (l6 + 1))))
    else
      lo k_38
theorem sb_X14_parts_11b {Γ : Gm} {ts : TS} {d : Nat} {rc : Rc} (hr : GR_rs (mg Γ) ts (d + 9) rc) (o : Ok Γ "LazyForge$Resolver" cX14_parts 8 (Option.some (Jvm.ClassFile.FieldType.array (Jvm.ClassFile.FieldType.object "LazyForge$Part"))) (d + 10)) {A : Type} {K : A → CH → Prop} (k_38 : Mo CH A) (k_53 : Int → Mo CH A) (hk_38 : Sx Γ (fun h => (h, ts)) K 38 [] [] (k_38)) (hk_53 : ∀ (l5 : Int), 0 < l5 → Sx Γ (fun h => (h, ts)) K 53 [(5, vA (mg Γ) l5)] [] (k_53 l5)) (l0 : Int) (l1 : Int) (l2 : Int) (l4 : Int) (l5 : Int) (l6 : Int) (hl2 : R32 l2) (hl5 : 0 < l5) (hl6 : R32 l6) : Sx Γ (fun h => (h, ts)) (KL Γ (fun h => (h, ts)) okb_X14_parts_11 K 11 (lvb_X14_parts_11 Γ) []) 11 [(0, vA (mg Γ) l0), (1, vA (mg Γ) l1), (2, vI l2), (4, vA (mg Γ) l4), (5, vA (mg Γ) l5), (6, vI l6)] [] (b_X14_parts_11b rc k_38 k_53 l0 l1 l2 l4 l5 l6) := by
  unfold b_X14_parts_11b
  refine s_iload o dX14_parts_11 5 rfl ?_
  refine s_aload o dX14_parts_13 4 rfl ?_
  refine s_alen o dX14_parts_15 (fun v1 hv1 => ?_)
  refine s_icmp_ge (tgt := 53) o dX14_parts_16 (by decide) hl6 (rN hv1) ?_ ?_
  · refine r_to [(5, vA (mg Γ) l5)] [4] rfl ?_
    exact s_lo (hk_53 l5 hl5)
  · refine s_aload_n o dX14_parts_19 rfl 0 rfl ?_
    refine s_aload_n o dX14_parts_20 rfl 1 rfl ?_
    refine s_iload_n o dX14_parts_21 rfl 2 rfl ?_
    refine s_iload o dX14_parts_22 5 rfl ?_
    refine s_iadd o dX14_parts_24 ?_
    refine r_aald (kd := 6) o (by decide) rfl (w32_R _) dX14_parts_25 (fun v2 => ?_)
    refine s_aload o dX14_parts_26 3 rfl ?_
    refine s_cvC (d := d + 9) (As := [vA (mg Γ) v2, vA (mg Γ) l4]) (st := []) (c := 14) o (gr_rs_4 hr l0 v2 l4) mw_X14_part rfl (Or.inl (lw_all_tbl q1303)) rfl (lw_all_tbl qs38) (lw_all_tbl q1305) wt_0 rfl dX14_parts_28 rfl (rs := fun r => [vA (mg Γ) r]) (fun _ => rfl) (fun v3 hv3 => ?_)
    refine r_astore o dX14_parts_31 rfl ⟨(Nat.ne_of_beq_eq_false rfl), (fun _ => (vA_cat (mg Γ) l0)), ⟨(Nat.ne_of_beq_eq_false rfl), (fun _ => (vA_cat (mg Γ) l1)), ⟨(Nat.ne_of_beq_eq_false rfl), (fun _ => rfl), ⟨(Nat.ne_of_beq_eq_false rfl), (fun _ => (vA_cat (mg Γ) l4)), ⟨(Nat.ne_of_beq_eq_false rfl), (fun _ => (vA_cat (mg Γ) l5)), ⟨(Nat.ne_of_beq_eq_false rfl), (fun _ => rfl), trivial⟩⟩⟩⟩⟩⟩ ?_
    refine s_aload o dX14_parts_33 0 rfl ?_
    refine s_ifnonnull (tgt := 40) o dX14_parts_35 (by decide) ?_ ?_
    · refine s_aload o dX14_parts_40 5 rfl ?_
      refine s_iload o dX14_parts_42 6 rfl ?_
      refine s_aload o dX14_parts_44 0 rfl ?_
      refine s_aast (kd := 5) o (by decide) (as_5 o) (Or.inl ⟨_, rfl⟩) hl6 dX14_parts_46 ?_
      refine r_iinc (j := 6) o dX14_parts_47 rfl rfl [(7, vA (mg Γ) v3), (0, vA (mg Γ) l0), (1, vA (mg Γ) l1), (2, vI l2), (4, vA (mg Γ) l4), (5, vA (mg Γ) l5)] [0, 1, 2, 3, 4, 5] rfl ⟨(Nat.ne_of_beq_eq_false rfl), (fun _ => (vA_cat (mg Γ) v3)), ⟨(Nat.ne_of_beq_eq_false rfl), (fun _ => (vA_cat (mg Γ) l0)), ⟨(Nat.ne_of_beq_eq_false rfl), (fun _ => (vA_cat (mg Γ) l1)), ⟨(Nat.ne_of_beq_eq_false rfl), (fun _ => rfl), ⟨(Nat.ne_of_beq_eq_false rfl), (fun _ => (vA_cat (mg Γ) l4)), ⟨(Nat.ne_of_beq_eq_false rfl), (fun _ => (vA_cat (mg Γ) l5)), trivial⟩⟩⟩⟩⟩⟩ ?_
      refine s_goto (tgt := 11) o dX14_parts_50 (by decide) ?_
      refine r_to [(0, vA (mg Γ) l0), (1, vA (mg Γ) l1), (2, vI l2), (4, vA (mg Γ) l4), (5, vA (mg Γ) l5), (6, vI (w32 (l6 + 1)))] [2, 3, 4, 5, 6, 0] rfl ?_
      exact s_back (⟨hl2, hl5, (w32_R _)⟩) rfl
    · refine r_to [] [] rfl ?_
      exact s_lo hk_38
noncomputable def b_X14_parts_11 (rc : Rc) {A : Type} (k_38 : Mo CH A) (k_53 : Int → Mo CH A) (l0 : Int) (l1 : Int) (l2 : Int) (l4 : Int) (l5 : Int) (l6 : Int) : Mo CH A := Loop (fun x => b_X14_parts_11b rc k_38 k_53 x.1 x.2.1 x.2.2.1 x.2.2.2.1 x.2.2.2.2.1 x.2.2.2.2.2) (l0, l1, l2, l4, l5, l6)
theorem sb_X14_parts_11 {Γ : Gm} {ts : TS} {d : Nat} {rc : Rc} (hr : GR_rs (mg Γ) ts (d + 9) rc) (o : Ok Γ "LazyForge$Resolver" cX14_parts 8 (Option.some (Jvm.ClassFile.FieldType.array (Jvm.ClassFile.FieldType.object "LazyForge$Part"))) (d + 10)) {A : Type} {K : A → CH → Prop} (k_38 : Mo CH A) (k_53 : Int → Mo CH A) (hk_38 : Sx Γ (fun h => (h, ts)) K 38 [] [] (k_38)) (hk_53 : ∀ (l5 : Int), 0 < l5 → Sx Γ (fun h => (h, ts)) K 53 [(5, vA (mg Γ) l5)] [] (k_53 l5)) (l0 : Int) (l1 : Int) (l2 : Int) (l4 : Int) (l5 : Int) (l6 : Int) (hl2 : R32 l2) (hl5 : 0 < l5) (hl6 : R32 l6) : Sx Γ (fun h => (h, ts)) K 11 [(0, vA (mg Γ) l0), (1, vA (mg Γ) l1), (2, vI l2), (4, vA (mg Γ) l4), (5, vA (mg Γ) l5), (6, vI l6)] [] (b_X14_parts_11 rc k_38 k_53 l0 l1 l2 l4 l5 l6) :=
  s_loop okb_X14_parts_11 (lvb_X14_parts_11 Γ) (fun x hx => sb_X14_parts_11b hr o k_38 k_53 hk_38 hk_53 x.1 x.2.1 x.2.2.1 x.2.2.2.1 x.2.2.2.2.1 x.2.2.2.2.2 hx.1 hx.2.1 hx.2.2) (x := (l0, l1, l2, l4, l5, l6)) ⟨hl2, hl5, hl6⟩
noncomputable def b_X14_parts (rc : Rc) (l0 : Int) (l1 : Int) (l2 : Int) (l3 : Int) (l4 : Int) : Mo CH Int :=
  bnd (newa 5 (w32 (l3 - l2))) fun v1 =>
  b_X14_parts_11 rc
    (pr 0)
    (fun v2 => pr v2) l0 l1 l2 l4 v1 0
theorem sb_X14_parts (g : gC) (d : Nat) (ts : TS) (rc : Rc) (hr : GR_rs g ts (d + 9) rc) (l0 : Int) (l1 : Int) (l2 : Int) (l3 : Int) (l4 : Int) (hl2 : R32 l2) (hl3 : R32 l3) : SF g yX14_parts (Cond.code yX14_parts cX14_parts 8 (Option.some (Jvm.ClassFile.FieldType.array (Jvm.ClassFile.FieldType.object "LazyForge$Part")))) (Option.some (Jvm.ClassFile.FieldType.array (Jvm.ClassFile.FieldType.object "LazyForge$Part"))) (d + 10) [vA g l0, vA g l1, vI l2, vI l3, vA g l4] (fun h => (h, ts)) (b_X14_parts rc l0 l1 l2 l3 l4) := by
  refine SF.of (lv := [(0, vA g l0), (1, vA g l1), (2, vI l2), (3, vI l3), (4, vA g l4)]) (by decide) (wt_A (wt_A (wt_I (wt_I (wt_A wt_0))))) rfl (by simp only [la_A, la_I, la_J, la_0]) (fun Γ hg hnm o => ?_)
  subst hg
  have o : Ok Γ "LazyForge$Resolver" cX14_parts 8 (Option.some (Jvm.ClassFile.FieldType.array (Jvm.ClassFile.FieldType.object "LazyForge$Part"))) (d + 10) := o
  unfold b_X14_parts
  refine s_iload_n o dX14_parts_0 rfl 3 rfl ?_
  refine s_iload_n o dX14_parts_1 rfl 2 rfl ?_
  refine s_isub o dX14_parts_2 ?_
  refine s_anew (kd := 5) o (by decide) (Or.inl rfl) (lw_all_tbl q1321) ao_5 (w32_R _) dX14_parts_3 (fun v1 hv1 => ?_)
  refine r_astore o dX14_parts_6 rfl ⟨(Nat.ne_of_beq_eq_false rfl), (fun _ => (vA_cat (mg Γ) l0)), ⟨(Nat.ne_of_beq_eq_false rfl), (fun _ => (vA_cat (mg Γ) l1)), ⟨(Nat.ne_of_beq_eq_false rfl), (fun _ => rfl), ⟨(Nat.ne_of_beq_eq_false rfl), (fun _ => rfl), ⟨(Nat.ne_of_beq_eq_false rfl), (fun _ => (vA_cat (mg Γ) l4)), trivial⟩⟩⟩⟩⟩ ?_
  refine s_iconst o dX14_parts_8 ?_
  refine r_istore o dX14_parts_9 rfl ⟨(Nat.ne_of_beq_eq_false rfl), (fun _ => (vA_cat (mg Γ) v1)), ⟨(Nat.ne_of_beq_eq_false rfl), (fun _ => (vA_cat (mg Γ) l0)), ⟨(Nat.ne_of_beq_eq_false rfl), (fun _ => (vA_cat (mg Γ) l1)), ⟨(Nat.ne_of_beq_eq_false rfl), (fun _ => rfl), ⟨(Nat.ne_of_beq_eq_false rfl), (fun _ => rfl), ⟨(Nat.ne_of_beq_eq_false rfl), (fun _ => (vA_cat (mg Γ) l4)), trivial⟩⟩⟩⟩⟩⟩ ?_
  refine r_to [(0, vA (mg Γ) l0), (1, vA (mg Γ) l1), (2, vI l2), (4, vA (mg Γ) l4), (5, vA (mg Γ) v1), (6, vI 0)] [2, 3, 4, 6, 1, 0] rfl ?_
  refine sb_X14_parts_11 hr o _ _ ?_ ?_ l0 l1 l2 l4 v1 0 hl2 hv1 (r32 rfl)
  · refine s_null o dX14_parts_38 ?_
    exact s_aret o rfl (Or.inr ⟨_, rfl⟩) dX14_parts_39 (fun _ hh => hh)
  · intro v2 hv2
    refine s_aload o dX14_parts_53 0 rfl ?_
    exact s_aret o rfl (Or.inr ⟨_, rfl⟩) dX14_parts_55 (fun _ hh => hh)
abbrev okb_X14_let_21 (x : Int × Int × Int × Int × Int × Int × Int) : Prop := R32 x.2.2.2.1 ∧ R32 x.2.2.2.2.1 ∧ 0 < x.2.2.2.2.2.1 ∧ R32 x.2.2.2.2.2.2
abbrev lvb_X14_let_21 (Γ : Gm) (x : Int × Int × Int × Int × Int × Int × Int) : List (Nat × Value) := [(0, vA (mg Γ) x.1), (1, vA (mg Γ) x.2.1), (2, vA (mg Γ) x.2.2.1), (3, vI x.2.2.2.1), (4, vI x.2.2.2.2.1), (5, vA (mg Γ) x.2.2.2.2.2.1), (6, vI x.2.2.2.2.2.2)]
noncomputable def b_X14_let_21b (rc : Rc) {A : Type} (k_58 : Int → Int → Int → Int → Int → Int → Mo CH A) (l0 : Int) (l1 : Int) (l2 : Int) (l3 : Int) (l4 : Int) (l5 : Int) (l6 : Int) : Mo CH ((Int × Int × Int × Int × Int × Int × Int) ⊕ A) :=
  if l3 ≤ l6 then
    lo (k_58 l0 l1 l2 l3 l4 l5)
  else
    bnd (isk 116 l2) fun _ =>
    bnd (c_X16_local l2) fun v1 =>
    bnd (asq 7 l5 l6 v1) fun _ =>
    bnd (gf [113] 5 l1) fun v2 =>
    bnd (ald 1 v2 l6) fun v3 =>
    bnd (ald 7 l5 l6) fun v4 =>
    bnd (isk 114 l0) fun _ =>
    bnd (c_X14_show l0 v3 v4) fun _ =>
    pr (.inl (l0, l1, l2, l3, l4, l5, (w32 (l6 + 1))))
theorem sb_X14_let_21b {Γ : Gm} {ts : TS} {d : Nat} {rc : Rc} (hr : GR_rs (mg Γ) ts (d + 9) rc) (o : Ok Γ "LazyForge$Resolver" cX14_let 8 (Option.some (Jvm.ClassFile.FieldType.object "LazyForge$Part")) (d + 10)) {A : Type} {K : A → CH → Prop} (k_58 : Int → Int → Int → Int → Int → Int → Mo CH A) (hk_58 : ∀ (l0 : Int) (l1 : Int) (l2 : Int) (l3 : Int) (l4 : Int) (l5 : Int), R32 l3 → R32 l4 → 0 < l5 → Sx Γ (fun h => (h, ts)) K 58 [(0, vA (mg Γ) l0), (1, vA (mg Γ) l1), (2, vA (mg Γ) l2), (3, vI l3), (4, vI l4), (5, vA (mg Γ) l5)] [] (k_58 l0 l1 l2 l3 l4 l5)) (l0 : Int) (l1 : Int) (l2 : Int) (l3 : Int) (l4 : Int) (l5 : Int) (l6 : Int) (hl3 : R32 l3) (hl4 : R32 l4) (hl5 : 0 < l5) (hl6 : R32 l6) : Sx Γ (fun h => (h, ts)) (KL Γ (fun h => (h, ts)) okb_X14_let_21 K 21 (lvb_X14_let_21 Γ) []) 21 [(0, vA (mg Γ) l0), (1, vA (mg Γ) l1), (2, vA (mg Γ) l2), (3, vI l3), (4, vI l4), (5, vA (mg Γ) l5), (6, vI l6)] [] (b_X14_let_21b rc k_58 l0 l1 l2 l3 l4 l5 l6) := by
  unfold b_X14_let_21b
  refine s_iload o dX14_let_21 6 rfl ?_
  refine s_iload_n o dX14_let_23 rfl 3 rfl ?_
  refine s_icmp_ge (tgt := 58) o dX14_let_24 (by decide) hl6 hl3 ?_ ?_
  · refine r_to [(0, vA (mg Γ) l0), (1, vA (mg Γ) l1), (2, vA (mg Γ) l2), (3, vI l3), (4, vI l4), (5, vA (mg Γ) l5)] [0, 1, 2, 3, 4, 5] rfl ?_
    exact s_lo (hk_58 l0 l1 l2 l3 l4 l5 hl3 hl4 hl5)
  · refine s_aload o dX14_let_27 5 rfl ?_
    refine s_iload o dX14_let_29 6 rfl ?_
    refine s_aload_n o dX14_let_31 rfl 2 rfl ?_
    refine s_cvC (d := d + 9) (As := []) (st := [vI l6, vA (mg Γ) l5]) (c := 16) o (sc_X16_local (mg Γ) (d + 2) ts l2) mw_X16_local rfl (Or.inl (lw_all_tbl q1311)) rfl (lw_all_tbl q1313) (lw_all_tbl q1312) (wt_I (wt_A wt_0)) rfl dX14_let_32 rfl (rs := fun r => [vA (mg Γ) r, vI l6, vA (mg Γ) l5]) (fun _ => rfl) (fun v1 hv1 => ?_)
    refine s_aast (kd := 7) o (by decide) (as_7 o) (Or.inl ⟨_, rfl⟩) hl6 dX14_let_35 ?_
    refine s_aload_n o dX14_let_36 rfl 0 rfl ?_
    refine s_aload_n o dX14_let_37 rfl 1 rfl ?_
    refine r_getf (vA (mg Γ)) rfl o cf_X13_names (Or.inr (Or.inl ⟨_, q907⟩)) dX14_let_38 (fun v2 hv2 => ?_)
    refine s_iload o dX14_let_41 6 rfl ?_
    refine r_lald o hl6 dX14_let_43 (fun v3 hv3 => ?_)
    refine s_aload o dX14_let_44 5 rfl ?_
    refine s_iload o dX14_let_46 6 rfl ?_
    refine r_aald (kd := 7) o (by decide) rfl hl6 dX14_let_48 (fun v4 => ?_)
    refine s_cvC (d := d + 9) (As := [vJ v3, vA (mg Γ) v4]) (st := []) (c := 14) o (sc_X14_show (mg Γ) (d + 8) ts l0 v3 v4 hv3) mw_X14_show rfl (Or.inl (lw_all_tbl q1298)) rfl (lw_all_tbl qs37) (lw_all_tbl q1300) wt_0 rfl dX14_let_49 rfl (rs := fun _ => []) (fun _ => rfl) (fun _ _ => ?_)
    refine r_iinc (j := 6) o dX14_let_52 rfl rfl [(0, vA (mg Γ) l0), (1, vA (mg Γ) l1), (2, vA (mg Γ) l2), (3, vI l3), (4, vI l4), (5, vA (mg Γ) l5)] [0, 1, 2, 3, 4, 5] rfl ⟨(Nat.ne_of_beq_eq_false rfl), (fun _ => (vA_cat (mg Γ) l0)), ⟨(Nat.ne_of_beq_eq_false rfl), (fun _ => (vA_cat (mg Γ) l1)), ⟨(Nat.ne_of_beq_eq_false rfl), (fun _ => (vA_cat (mg Γ) l2)), ⟨(Nat.ne_of_beq_eq_false rfl), (fun _ => rfl), ⟨(Nat.ne_of_beq_eq_false rfl), (fun _ => rfl), ⟨(Nat.ne_of_beq_eq_false rfl), (fun _ => (vA_cat (mg Γ) l5)), trivial⟩⟩⟩⟩⟩⟩ ?_
    refine s_goto (tgt := 21) o dX14_let_55 (by decide) ?_
    refine r_to [(0, vA (mg Γ) l0), (1, vA (mg Γ) l1), (2, vA (mg Γ) l2), (3, vI l3), (4, vI l4), (5, vA (mg Γ) l5), (6, vI (w32 (l6 + 1)))] [1, 2, 3, 4, 5, 6, 0] rfl ?_
    exact s_back (⟨hl3, hl4, hl5, (w32_R _)⟩) rfl
noncomputable def b_X14_let_21 (rc : Rc) {A : Type} (k_58 : Int → Int → Int → Int → Int → Int → Mo CH A) (l0 : Int) (l1 : Int) (l2 : Int) (l3 : Int) (l4 : Int) (l5 : Int) (l6 : Int) : Mo CH A := Loop (fun x => b_X14_let_21b rc k_58 x.1 x.2.1 x.2.2.1 x.2.2.2.1 x.2.2.2.2.1 x.2.2.2.2.2.1 x.2.2.2.2.2.2) (l0, l1, l2, l3, l4, l5, l6)
theorem sb_X14_let_21 {Γ : Gm} {ts : TS} {d : Nat} {rc : Rc} (hr : GR_rs (mg Γ) ts (d + 9) rc) (o : Ok Γ "LazyForge$Resolver" cX14_let 8 (Option.some (Jvm.ClassFile.FieldType.object "LazyForge$Part")) (d + 10)) {A : Type} {K : A → CH → Prop} (k_58 : Int → Int → Int → Int → Int → Int → Mo CH A) (hk_58 : ∀ (l0 : Int) (l1 : Int) (l2 : Int) (l3 : Int) (l4 : Int) (l5 : Int), R32 l3 → R32 l4 → 0 < l5 → Sx Γ (fun h => (h, ts)) K 58 [(0, vA (mg Γ) l0), (1, vA (mg Γ) l1), (2, vA (mg Γ) l2), (3, vI l3), (4, vI l4), (5, vA (mg Γ) l5)] [] (k_58 l0 l1 l2 l3 l4 l5)) (l0 : Int) (l1 : Int) (l2 : Int) (l3 : Int) (l4 : Int) (l5 : Int) (l6 : Int) (hl3 : R32 l3) (hl4 : R32 l4) (hl5 : 0 < l5) (hl6 : R32 l6) : Sx Γ (fun h => (h, ts)) K 21 [(0, vA (mg Γ) l0), (1, vA (mg Γ) l1), (2, vA (mg Γ) l2), (3, vI l3), (4, vI l4), (5, vA (mg Γ) l5), (6, vI l6)] [] (b_X14_let_21 rc k_58 l0 l1 l2 l3 l4 l5 l6) :=
  s_loop okb_X14_let_21 (lvb_X14_let_21 Γ) (fun x hx => sb_X14_let_21b hr o k_58 hk_58 x.1 x.2.1 x.2.2.1 x.2.2.2.1 x.2.2.2.2.1 x.2.2.2.2.2.1 x.2.2.2.2.2.2 hx.1 hx.2.1 hx.2.2.1 hx.2.2.2) (x := (l0, l1, l2, l3, l4, l5, l6)) ⟨hl3, hl4, hl5, hl6⟩
noncomputable def b_X14_let_91 (rc : Rc)  (l0 : Int) (l4 : Int) (l5 : Int) (l6 : Int) (k0 : Int) : Mo CH Int :=
  bnd (pf [114] 4 l0 l4) fun _ =>
  if ¬ k0 = 0 then
    bnd (newo 18) fun v1 =>
    bnd (c_X18_init v1 l5 l6 k0) fun _ =>
    pr v1
  else
    pr 0
theorem sb_X14_let_91 {Γ : Gm} {ts : TS} {d : Nat} {rc : Rc} (hr : GR_rs (mg Γ) ts (d + 9) rc) (o : Ok Γ "LazyForge$Resolver" cX14_let 8 (Option.some (Jvm.ClassFile.FieldType.object "LazyForge$Part")) (d + 10))   (l0 : Int) (l4 : Int) (l5 : Int) (l6 : Int) (k0 : Int) (hl4 : R32 l4) (hl5 : 0 < l5) : Sx Γ (fun h => (h, ts)) (fun a s => mt Γ = (0, a, ((s, ts) : Wd))) 91 [(0, vA (mg Γ) l0), (4, vI l4), (5, vA (mg Γ) l5), (6, vA (mg Γ) l6)] [vA (mg Γ) k0] (b_X14_let_91 rc l0 l4 l5 l6 k0) := by
  unfold b_X14_let_91
  refine r_astore o dX14_let_91 rfl ⟨(Nat.ne_of_beq_eq_false rfl), (fun _ => (vA_cat (mg Γ) l0)), ⟨(Nat.ne_of_beq_eq_false rfl), (fun _ => rfl), ⟨(Nat.ne_of_beq_eq_false rfl), (fun _ => (vA_cat (mg Γ) l5)), ⟨(Nat.ne_of_beq_eq_false rfl), (fun _ => (vA_cat (mg Γ) l6)), trivial⟩⟩⟩⟩ ?_
  refine s_aload_n o dX14_let_93 rfl 1 rfl ?_
  refine s_iload o dX14_let_94 2 rfl ?_
  refine r_putf vI rfl o cf_X14_seen (Or.inl (lw_all_tbl q1108)) dX14_let_96 (Or.inl rfl) hl4 ty_int ?_
  refine s_aload o dX14_let_99 0 rfl ?_
  refine s_ifnonnull (tgt := 108) o dX14_let_101 (by decide) ?_ ?_
  · refine s_new o mk_18 (lw_all_tbl q1322) dX14_let_108 (fun v1 hv1 => ?_)
    refine s_dup o dX14_let_111 (vA_cat (mg Γ) v1) ?_
    refine s_aload o dX14_let_112 3 rfl ?_
    refine s_aload o dX14_let_114 4 rfl ?_
    refine s_aload o dX14_let_116 0 rfl ?_
    refine s_ci (d := d + 9) (As := [vA (mg Γ) l5, vA (mg Γ) l6, vA (mg Γ) k0]) (st := [vA (mg Γ) v1]) o (sc_X18_init (mg Γ) (d + 7) ts v1 l5 l6 k0 hv1) mw_X18_init rfl (Or.inl (lw_all_tbl q1324)) (lw_all_tbl q1325) rfl hv1 (wt_A wt_0) rfl dX14_let_118 rfl (fun _ => ?_)
    exact s_aret o rfl (Or.inl ⟨_, rfl⟩) dX14_let_121 (fun _ hh => hh)
  · refine s_null o dX14_let_104 ?_
    refine s_goto (tgt := 121) o dX14_let_105 (by decide) ?_
    exact s_aret o rfl (Or.inl ⟨_, rfl⟩) dX14_let_121 (fun _ hh => hh)
noncomputable def b_X14_let (rc : Rc) (l0 : Int) (l1 : Int) (l2 : Int) : Mo CH Int :=
  bnd (gf [113] 5 l1) fun v1 =>
  bnd (aln v1) fun v2 =>
  bnd (gf [114] 4 l0) fun v3 =>
  bnd (newa 7 v2) fun v4 =>
  b_X14_let_21 rc
    (fun v5 v6 v7 v8 v9 v10 => bnd (gf [113] 6 v6) fun v11 =>
  bnd (isk 114 v5) fun _ =>
  bnd (rc 5 v5 v11 0 v8 v7) fun v12 =>
  if ¬ v12 = 0 then
    bnd (gf [113] 6 v6) fun v13 =>
    bnd (ald 6 v13 v8) fun v14 =>
    bnd (isk 114 v5) fun _ =>
    bnd (rc 4 v5 v14 v7 0 0) fun v15 =>
    b_X14_let_91 rc v5 v9 v10 v12 v15
  else
    b_X14_let_91 rc v5 v9 v10 v12 0) l0 l1 l2 v2 v3 v4 0
theorem sb_X14_let (g : gC) (d : Nat) (ts : TS) (rc : Rc) (hr : GR_rs g ts (d + 9) rc) (l0 : Int) (l1 : Int) (l2 : Int) : SF g yX14_let (Cond.code yX14_let cX14_let 8 (Option.some (Jvm.ClassFile.FieldType.object "LazyForge$Part"))) (Option.some (Jvm.ClassFile.FieldType.object "LazyForge$Part")) (d + 10) [vA g l0, vA g l1, vA g l2] (fun h => (h, ts)) (b_X14_let rc l0 l1 l2) := by
  refine SF.of (lv := [(0, vA g l0), (1, vA g l1), (2, vA g l2)]) (by decide) (wt_A (wt_A (wt_A wt_0))) rfl (by simp only [la_A, la_I, la_J, la_0]) (fun Γ hg hnm o => ?_)
  subst hg
  have o : Ok Γ "LazyForge$Resolver" cX14_let 8 (Option.some (Jvm.ClassFile.FieldType.object "LazyForge$Part")) (d + 10) := o
  unfold b_X14_let
  refine s_aload_n o dX14_let_0 rfl 1 rfl ?_
  refine r_getf (vA (mg Γ)) rfl o cf_X13_names (Or.inr (Or.inl ⟨_, q907⟩)) dX14_let_1 (fun v1 hv1 => ?_)
  refine s_alen o dX14_let_4 (fun v2 hv2 => ?_)
  refine r_istore_n o dX14_let_5 rfl rfl ⟨(Nat.ne_of_beq_eq_false rfl), (fun _ => (vA_cat (mg Γ) l0)), ⟨(Nat.ne_of_beq_eq_false rfl), (fun _ => (vA_cat (mg Γ) l1)), ⟨(Nat.ne_of_beq_eq_false rfl), (fun _ => (vA_cat (mg Γ) l2)), trivial⟩⟩⟩ ?_
  refine s_aload_n o dX14_let_6 rfl 1 rfl ?_
  refine r_getf vI rfl o cf_X14_seen (Or.inl (lw_all_tbl q1108)) dX14_let_7 (fun v3 hv3 => ?_)
  refine r_istore o dX14_let_10 rfl ⟨(Nat.ne_of_beq_eq_false rfl), (fun _ => rfl), ⟨(Nat.ne_of_beq_eq_false rfl), (fun _ => (vA_cat (mg Γ) l0)), ⟨(Nat.ne_of_beq_eq_false rfl), (fun _ => (vA_cat (mg Γ) l1)), ⟨(Nat.ne_of_beq_eq_false rfl), (fun _ => (vA_cat (mg Γ) l2)), trivial⟩⟩⟩⟩ ?_
  refine s_iload_n o dX14_let_12 rfl 1 rfl ?_
  refine s_anew (kd := 7) o (by decide) (Or.inl rfl) (lw_all_tbl q1100) ao_7 (rN hv2) dX14_let_13 (fun v4 hv4 => ?_)
  refine r_astore o dX14_let_16 rfl ⟨(Nat.ne_of_beq_eq_false rfl), (fun _ => rfl), ⟨(Nat.ne_of_beq_eq_false rfl), (fun _ => rfl), ⟨(Nat.ne_of_beq_eq_false rfl), (fun _ => (vA_cat (mg Γ) l0)), ⟨(Nat.ne_of_beq_eq_false rfl), (fun _ => (vA_cat (mg Γ) l1)), ⟨(Nat.ne_of_beq_eq_false rfl), (fun _ => (vA_cat (mg Γ) l2)), trivial⟩⟩⟩⟩⟩ ?_
  refine s_iconst o dX14_let_18 ?_
  refine r_istore o dX14_let_19 rfl ⟨(Nat.ne_of_beq_eq_false rfl), (fun _ => (vA_cat (mg Γ) v4)), ⟨(Nat.ne_of_beq_eq_false rfl), (fun _ => rfl), ⟨(Nat.ne_of_beq_eq_false rfl), (fun _ => rfl), ⟨(Nat.ne_of_beq_eq_false rfl), (fun _ => (vA_cat (mg Γ) l0)), ⟨(Nat.ne_of_beq_eq_false rfl), (fun _ => (vA_cat (mg Γ) l1)), ⟨(Nat.ne_of_beq_eq_false rfl), (fun _ => (vA_cat (mg Γ) l2)), trivial⟩⟩⟩⟩⟩⟩ ?_
  refine r_to [(0, vA (mg Γ) l0), (1, vA (mg Γ) l1), (2, vA (mg Γ) l2), (3, vI v2), (4, vI v3), (5, vA (mg Γ) v4), (6, vI 0)] [4, 5, 6, 3, 2, 1, 0] rfl ?_
  refine sb_X14_let_21 hr o _ ?_ l0 l1 l2 v2 v3 v4 0 (rN hv2) hv3 hv4 (r32 rfl)
  · intro v5 v6 v7 v8 v9 v10 hv8 hv9 hv10
    refine s_aload_n o dX14_let_58 rfl 0 rfl ?_
    refine s_aload_n o dX14_let_59 rfl 1 rfl ?_
    refine r_getf (vA (mg Γ)) rfl o cf_X13_kids (Or.inr (Or.inl ⟨_, q909⟩)) dX14_let_60 (fun v11 hv11 => ?_)
    refine s_iconst o dX14_let_63 ?_
    refine s_iload_n o dX14_let_64 rfl 3 rfl ?_
    refine s_aload_n o dX14_let_65 rfl 2 rfl ?_
    refine s_cvC (d := d + 9) (As := [vA (mg Γ) v11, vI 0, vI v8, vA (mg Γ) v7]) (st := []) (c := 14) o (gr_rs_5 hr v5 v11 0 v8 v7 (r32 rfl) hv8) mw_X14_parts rfl (Or.inl (lw_all_tbl q1317)) rfl (lw_all_tbl qs40) (lw_all_tbl q1319) wt_0 rfl dX14_let_66 rfl (rs := fun r => [vA (mg Γ) r]) (fun _ => rfl) (fun v12 hv12 => ?_)
    refine r_astore o dX14_let_69 rfl ⟨(Nat.ne_of_beq_eq_false rfl), (fun _ => (vA_cat (mg Γ) v5)), ⟨(Nat.ne_of_beq_eq_false rfl), (fun _ => (vA_cat (mg Γ) v6)), ⟨(Nat.ne_of_beq_eq_false rfl), (fun _ => (vA_cat (mg Γ) v7)), ⟨(Nat.ne_of_beq_eq_false rfl), (fun _ => rfl), ⟨(Nat.ne_of_beq_eq_false rfl), (fun _ => rfl), ⟨(Nat.ne_of_beq_eq_false rfl), (fun _ => (vA_cat (mg Γ) v10)), trivial⟩⟩⟩⟩⟩⟩ ?_
    refine s_aload o dX14_let_71 0 rfl ?_
    refine s_ifnonnull (tgt := 80) o dX14_let_73 (by decide) ?_ ?_
    · refine s_aload_n o dX14_let_80 rfl 1 rfl ?_
      refine s_aload_n o dX14_let_81 rfl 2 rfl ?_
      refine r_getf (vA (mg Γ)) rfl o cf_X13_kids (Or.inr (Or.inl ⟨_, q909⟩)) dX14_let_82 (fun v13 hv13 => ?_)
      refine s_iload_n o dX14_let_85 rfl 4 rfl ?_
      refine r_aald (kd := 6) o (by decide) rfl hv8 dX14_let_86 (fun v14 => ?_)
      refine s_aload_n o dX14_let_87 rfl 3 rfl ?_
      refine s_cvC (d := d + 9) (As := [vA (mg Γ) v14, vA (mg Γ) v7]) (st := []) (c := 14) o (gr_rs_4 hr v5 v14 v7) mw_X14_part rfl (Or.inl (lw_all_tbl q1303)) rfl (lw_all_tbl qs38) (lw_all_tbl q1305) wt_0 rfl dX14_let_88 rfl (rs := fun r => [vA (mg Γ) r]) (fun _ => rfl) (fun v15 hv15 => ?_)
      refine r_to [(0, vA (mg Γ) v5), (4, vI v9), (5, vA (mg Γ) v10), (6, vA (mg Γ) v12)] [1, 5, 6, 0] rfl ?_
      exact sb_X14_let_91 hr o v5 v9 v10 v12 v15 hv9 hv10
    · refine s_null o dX14_let_76 ?_
      refine s_goto (tgt := 91) o dX14_let_77 (by decide) ?_
      refine r_to [(0, vA (mg Γ) v5), (4, vI v9), (5, vA (mg Γ) v10), (6, vA (mg Γ) v12)] [1, 5, 6, 0] rfl ?_
      exact sb_X14_let_91 hr o v5 v9 v10 v12 0 hv9 hv10
abbrev okb_X14_enter_18 (x : Int × Int × Int × Int × Int × Int) : Prop := R32 x.2.2.2.2.1 ∧ R32 x.2.2.2.2.2
abbrev lvb_X14_enter_18 (Γ : Gm) (x : Int × Int × Int × Int × Int × Int) : List (Nat × Value) := [(0, vA (mg Γ) x.1), (1, vA (mg Γ) x.2.1), (2, vA (mg Γ) x.2.2.1), (3, vA (mg Γ) x.2.2.2.1), (4, vI x.2.2.2.2.1), (5, vI x.2.2.2.2.2)]
noncomputable def b_X14_enter_18b (rc : Rc) {A : Type} (k_61 : Int → Int → Int → Int → Mo CH A) (l0 : Int) (l1 : Int) (l2 : Int) (l3 : Int) (l4 : Int) (l5 : Int) : Mo CH ((Int × Int × Int × Int × Int × Int) ⊕ A) :=
  bnd (aln l2) fun v1 =>
  if v1 ≤ l5 then
    lo (k_61 l0 l1 l3 l4)
  else
    bnd (gf [116] 3 l1) fun v2 =>
    bnd (newo 17) fun v3 =>
    bnd (c_X17_init v3 l1) fun _ =>
    bnd (asq 7 v2 l5 v3) fun _ =>
    bnd (ald 1 l2 l5) fun v4 =>
    bnd (gf [116] 3 l1) fun v5 =>
    bnd (ald 7 v5 l5) fun v6 =>
    bnd (isk 114 l0) fun _ =>
    bnd (c_X14_show l0 v4 v6) fun _ =>
    pr (.inl (l0, l1, l2, l3, l4, (w32 (l5 + 1))))
theorem sb_X14_enter_18b {Γ : Gm} {ts : TS} {d : Nat} {rc : Rc} (hr : GR_rs (mg Γ) ts (d + 9) rc) (o : Ok Γ "LazyForge$Resolver" cX14_enter 6 (Option.none : Option Jvm.ClassFile.FieldType) (d + 10)) {A : Type} {K : A → CH → Prop} (k_61 : Int → Int → Int → Int → Mo CH A) (hk_61 : ∀ (l0 : Int) (l1 : Int) (l3 : Int) (l4 : Int), R32 l4 → Sx Γ (fun h => (h, ts)) K 61 [(0, vA (mg Γ) l0), (1, vA (mg Γ) l1), (3, vA (mg Γ) l3), (4, vI l4)] [] (k_61 l0 l1 l3 l4)) (l0 : Int) (l1 : Int) (l2 : Int) (l3 : Int) (l4 : Int) (l5 : Int) (hl4 : R32 l4) (hl5 : R32 l5) : Sx Γ (fun h => (h, ts)) (KL Γ (fun h => (h, ts)) okb_X14_enter_18 K 18 (lvb_X14_enter_18 Γ) []) 18 [(0, vA (mg Γ) l0), (1, vA (mg Γ) l1), (2, vA (mg Γ) l2), (3, vA (mg Γ) l3), (4, vI l4), (5, vI l5)] [] (b_X14_enter_18b rc k_61 l0 l1 l2 l3 l4 l5) := by
  unfold b_X14_enter_18b
  refine s_iload o dX14_enter_18 5 rfl ?_
  refine s_aload_n o dX14_enter_20 rfl 2 rfl ?_
  refine s_alen o dX14_enter_21 (fun v1 hv1 => ?_)
  refine s_icmp_ge (tgt := 61) o dX14_enter_22 (by decide) hl5 (rN hv1) ?_ ?_
  · refine r_to [(0, vA (mg Γ) l0), (1, vA (mg Γ) l1), (3, vA (mg Γ) l3), (4, vI l4)] [0, 1, 3, 4] rfl ?_
    exact s_lo (hk_61 l0 l1 l3 l4 hl4)
  · refine s_aload_n o dX14_enter_25 rfl 1 rfl ?_
    refine r_getf (vA (mg Γ)) rfl o cf_X16_own (Or.inr (Or.inl ⟨_, q1153⟩)) dX14_enter_26 (fun v2 hv2 => ?_)
    refine s_iload o dX14_enter_29 5 rfl ?_
    refine s_new o mk_17 (lw_all_tbl q1100) dX14_enter_31 (fun v3 hv3 => ?_)
    refine s_dup o dX14_enter_34 (vA_cat (mg Γ) v3) ?_
    refine s_aload_n o dX14_enter_35 rfl 1 rfl ?_
    refine s_ci (d := d + 9) (As := [vA (mg Γ) l1]) (st := [vA (mg Γ) v3, vI l5, vA (mg Γ) v2]) o (sc_X17_init (mg Γ) (d + 8) ts v3 l1 hv3) mw_X17_init rfl (Or.inl (lw_all_tbl q1283)) (lw_all_tbl q1284) rfl hv3 (wt_A (wt_I (wt_A wt_0))) rfl dX14_enter_36 rfl (fun _ => ?_)
    refine s_aast (kd := 7) o (by decide) (as_7 o) (Or.inl ⟨_, rfl⟩) hl5 dX14_enter_39 ?_
    refine s_aload_n o dX14_enter_40 rfl 0 rfl ?_
    refine s_aload_n o dX14_enter_41 rfl 2 rfl ?_
    refine s_iload o dX14_enter_42 5 rfl ?_
    refine r_lald o hl5 dX14_enter_44 (fun v4 hv4 => ?_)
    refine s_aload_n o dX14_enter_45 rfl 1 rfl ?_
    refine r_getf (vA (mg Γ)) rfl o cf_X16_own (Or.inr (Or.inl ⟨_, q1153⟩)) dX14_enter_46 (fun v5 hv5 => ?_)
    refine s_iload o dX14_enter_49 5 rfl ?_
    refine r_aald (kd := 7) o (by decide) rfl hl5 dX14_enter_51 (fun v6 => ?_)
    refine s_cvC (d := d + 9) (As := [vJ v4, vA (mg Γ) v6]) (st := []) (c := 14) o (sc_X14_show (mg Γ) (d + 8) ts l0 v4 v6 hv4) mw_X14_show rfl (Or.inl (lw_all_tbl q1298)) rfl (lw_all_tbl qs37) (lw_all_tbl q1300) wt_0 rfl dX14_enter_52 rfl (rs := fun _ => []) (fun _ => rfl) (fun _ _ => ?_)
    refine r_iinc (j := 5) o dX14_enter_55 rfl rfl [(0, vA (mg Γ) l0), (1, vA (mg Γ) l1), (2, vA (mg Γ) l2), (3, vA (mg Γ) l3), (4, vI l4)] [0, 1, 2, 3, 4] rfl ⟨(Nat.ne_of_beq_eq_false rfl), (fun _ => (vA_cat (mg Γ) l0)), ⟨(Nat.ne_of_beq_eq_false rfl), (fun _ => (vA_cat (mg Γ) l1)), ⟨(Nat.ne_of_beq_eq_false rfl), (fun _ => (vA_cat (mg Γ) l2)), ⟨(Nat.ne_of_beq_eq_false rfl), (fun _ => (vA_cat (mg Γ) l3)), ⟨(Nat.ne_of_beq_eq_false rfl), (fun _ => rfl), trivial⟩⟩⟩⟩⟩ ?_
    refine s_goto (tgt := 18) o dX14_enter_58 (by decide) ?_
    refine r_to [(0, vA (mg Γ) l0), (1, vA (mg Γ) l1), (2, vA (mg Γ) l2), (3, vA (mg Γ) l3), (4, vI l4), (5, vI (w32 (l5 + 1)))] [1, 2, 3, 4, 5, 0] rfl ?_
    exact s_back (⟨hl4, (w32_R _)⟩) rfl
noncomputable def b_X14_enter_18 (rc : Rc) {A : Type} (k_61 : Int → Int → Int → Int → Mo CH A) (l0 : Int) (l1 : Int) (l2 : Int) (l3 : Int) (l4 : Int) (l5 : Int) : Mo CH A := Loop (fun x => b_X14_enter_18b rc k_61 x.1 x.2.1 x.2.2.1 x.2.2.2.1 x.2.2.2.2.1 x.2.2.2.2.2) (l0, l1, l2, l3, l4, l5)
theorem sb_X14_enter_18 {Γ : Gm} {ts : TS} {d : Nat} {rc : Rc} (hr : GR_rs (mg Γ) ts (d + 9) rc) (o : Ok Γ "LazyForge$Resolver" cX14_enter 6 (Option.none : Option Jvm.ClassFile.FieldType) (d + 10)) {A : Type} {K : A → CH → Prop} (k_61 : Int → Int → Int → Int → Mo CH A) (hk_61 : ∀ (l0 : Int) (l1 : Int) (l3 : Int) (l4 : Int), R32 l4 → Sx Γ (fun h => (h, ts)) K 61 [(0, vA (mg Γ) l0), (1, vA (mg Γ) l1), (3, vA (mg Γ) l3), (4, vI l4)] [] (k_61 l0 l1 l3 l4)) (l0 : Int) (l1 : Int) (l2 : Int) (l3 : Int) (l4 : Int) (l5 : Int) (hl4 : R32 l4) (hl5 : R32 l5) : Sx Γ (fun h => (h, ts)) K 18 [(0, vA (mg Γ) l0), (1, vA (mg Γ) l1), (2, vA (mg Γ) l2), (3, vA (mg Γ) l3), (4, vI l4), (5, vI l5)] [] (b_X14_enter_18 rc k_61 l0 l1 l2 l3 l4 l5) :=
  s_loop okb_X14_enter_18 (lvb_X14_enter_18 Γ) (fun x hx => sb_X14_enter_18b hr o k_61 hk_61 x.1 x.2.1 x.2.2.1 x.2.2.2.1 x.2.2.2.2.1 x.2.2.2.2.2 hx.1 hx.2) (x := (l0, l1, l2, l3, l4, l5)) ⟨hl4, hl5⟩
noncomputable def b_X14_enter (rc : Rc) (l0 : Int) (l1 : Int) (l2 : Int) (l3 : Int) : Mo CH Int :=
  bnd (gf [114] 4 l0) fun v1 =>
  bnd (aln l2) fun v2 =>
  bnd (newa 7 v2) fun v3 =>
  bnd (pf [116] 3 l1 v3) fun _ =>
  b_X14_enter_18 rc
    (fun v4 v5 v6 v7 => bnd (isk 114 v4) fun _ =>
  bnd (rc 4 v4 v6 v5 0 0) fun v8 =>
  bnd (pf [116] 6 v5 v8) fun _ =>
  bnd (pf [114] 4 v4 v7) fun _ =>
  pr 0) l0 l1 l2 l3 v1 0
theorem sb_X14_enter (g : gC) (d : Nat) (ts : TS) (rc : Rc) (hr : GR_rs g ts (d + 9) rc) (l0 : Int) (l1 : Int) (l2 : Int) (l3 : Int) : SF g yX14_enter (Cond.code yX14_enter cX14_enter 6 (Option.none : Option Jvm.ClassFile.FieldType)) (Option.none : Option Jvm.ClassFile.FieldType) (d + 10) [vA g l0, vA g l1, vA g l2, vA g l3] (fun h => (h, ts)) (b_X14_enter rc l0 l1 l2 l3) := by
  refine SF.of (lv := [(0, vA g l0), (1, vA g l1), (2, vA g l2), (3, vA g l3)]) (by decide) (wt_A (wt_A (wt_A (wt_A wt_0)))) rfl (by simp only [la_A, la_I, la_J, la_0]) (fun Γ hg hnm o => ?_)
  subst hg
  have o : Ok Γ "LazyForge$Resolver" cX14_enter 6 (Option.none : Option Jvm.ClassFile.FieldType) (d + 10) := o
  unfold b_X14_enter
  refine s_aload_n o dX14_enter_0 rfl 0 rfl ?_
  refine r_getf vI rfl o cf_X14_seen (Or.inl (lw_all_tbl q1108)) dX14_enter_1 (fun v1 hv1 => ?_)
  refine r_istore o dX14_enter_4 rfl ⟨(Nat.ne_of_beq_eq_false rfl), (fun _ => (vA_cat (mg Γ) l0)), ⟨(Nat.ne_of_beq_eq_false rfl), (fun _ => (vA_cat (mg Γ) l1)), ⟨(Nat.ne_of_beq_eq_false rfl), (fun _ => (vA_cat (mg Γ) l2)), ⟨(Nat.ne_of_beq_eq_false rfl), (fun _ => (vA_cat (mg Γ) l3)), trivial⟩⟩⟩⟩ ?_
  refine s_aload_n o dX14_enter_6 rfl 2 rfl ?_
  refine s_aload_n o dX14_enter_7 rfl 3 rfl ?_
  refine s_alen o dX14_enter_8 (fun v2 hv2 => ?_)
  refine s_anew (kd := 7) o (by decide) (Or.inl rfl) (lw_all_tbl q1100) ao_7 (rN hv2) dX14_enter_9 (fun v3 hv3 => ?_)
  refine r_putf (vA (mg Γ)) rfl o cf_X16_own (Or.inr (Or.inl ⟨_, q1153⟩)) dX14_enter_12 (Or.inl rfl) trivial (ty_array _) ?_
  refine s_iconst o dX14_enter_15 ?_
  refine r_istore o dX14_enter_16 rfl ⟨(Nat.ne_of_beq_eq_false rfl), (fun _ => rfl), ⟨(Nat.ne_of_beq_eq_false rfl), (fun _ => (vA_cat (mg Γ) l0)), ⟨(Nat.ne_of_beq_eq_false rfl), (fun _ => (vA_cat (mg Γ) l1)), ⟨(Nat.ne_of_beq_eq_false rfl), (fun _ => (vA_cat (mg Γ) l2)), ⟨(Nat.ne_of_beq_eq_false rfl), (fun _ => (vA_cat (mg Γ) l3)), trivial⟩⟩⟩⟩⟩ ?_
  refine r_to [(0, vA (mg Γ) l0), (1, vA (mg Γ) l1), (2, vA (mg Γ) l2), (3, vA (mg Γ) l3), (4, vI v1), (5, vI 0)] [2, 3, 4, 5, 1, 0] rfl ?_
  refine sb_X14_enter_18 hr o _ ?_ l0 l1 l2 l3 v1 0 hv1 (r32 rfl)
  · intro v4 v5 v6 v7 hv7
    refine s_aload_n o dX14_enter_61 rfl 1 rfl ?_
    refine s_aload_n o dX14_enter_62 rfl 0 rfl ?_
    refine s_aload_n o dX14_enter_63 rfl 2 rfl ?_
    refine s_aload_n o dX14_enter_64 rfl 1 rfl ?_
    refine s_cvC (d := d + 9) (As := [vA (mg Γ) v6, vA (mg Γ) v5]) (st := [vA (mg Γ) v5]) (c := 14) o (gr_rs_4 hr v4 v6 v5) mw_X14_part rfl (Or.inl (lw_all_tbl q1303)) rfl (lw_all_tbl qs38) (lw_all_tbl q1305) (wt_A wt_0) rfl dX14_enter_65 rfl (rs := fun r => [vA (mg Γ) r, vA (mg Γ) v5]) (fun _ => rfl) (fun v8 hv8 => ?_)
    refine r_putf (vA (mg Γ)) rfl o cf_X16_body (Or.inr (Or.inl ⟨_, q1158⟩)) dX14_enter_68 (Or.inl rfl) trivial (ty_object _) ?_
    refine s_aload_n o dX14_enter_71 rfl 0 rfl ?_
    refine s_iload o dX14_enter_72 3 rfl ?_
    refine r_putf vI rfl o cf_X14_seen (Or.inl (lw_all_tbl q1108)) dX14_enter_74 (Or.inl rfl) hv7 ty_int ?_
    exact s_vret o rfl dX14_enter_77 (fun _ hh => hh)
abbrev okb_X14_lambda_97 (x : Int × Int × Int × Int × Int × Int) : Prop := 0 < x.2.2.1 ∧ 0 < x.2.2.2.1 ∧ 0 < x.2.2.2.2.1 ∧ R32 x.2.2.2.2.2
abbrev lvb_X14_lambda_97 (Γ : Gm) (x : Int × Int × Int × Int × Int × Int) : List (Nat × Value) := [(0, vA (mg Γ) x.1), (2, vA (mg Γ) x.2.1), (3, vA (mg Γ) x.2.2.1), (4, vA (mg Γ) x.2.2.2.1), (5, vA (mg Γ) x.2.2.2.2.1), (6, vI x.2.2.2.2.2)]
noncomputable def b_X14_lambda_97b (rc : Rc) {A : Type} (k_133 : Int → Int → Mo CH A) (l0 : Int) (l2 : Int) (l3 : Int) (l4 : Int) (l5 : Int) (l6 : Int) : Mo CH ((Int × Int × Int × Int × Int × Int) ⊕ A) :=
  bnd (aln l5) fun v1 =>
  if v1 ≤ l6 then
    lo (k_133 l4 l5)
  else
    bnd (gf [116] 4 l3) fun v2 =>
    bnd (isk 127 v2) fun _ =>
    bnd (c_J13_get v2 l6) fun v3 =>
    bnd (ckk [117] v3) fun _ =>
    bnd (isk 114 l0) fun _ =>
    bnd (c_X14_use l0 v3 l2) fun v4 =>
    bnd (asq 5 l5 l6 v4) fun _ =>
    pr (.inl (l0, l2, l3, l4, l5, (w32 (l6 + 1))))
theorem sb_X14_lambda_97b {Γ : Gm} {ts : TS} {d : Nat} {rc : Rc} (hr : GR_rs (mg Γ) ts (d + 9) rc) (o : Ok Γ "LazyForge$Resolver" cX14_lambda 7 (Option.some (Jvm.ClassFile.FieldType.object "LazyForge$Part")) (d + 10)) {A : Type} {K : A → CH → Prop} (k_133 : Int → Int → Mo CH A) (hk_133 : ∀ (l4 : Int) (l5 : Int), 0 < l4 → 0 < l5 → Sx Γ (fun h => (h, ts)) K 133 [(4, vA (mg Γ) l4), (5, vA (mg Γ) l5)] [] (k_133 l4 l5)) (l0 : Int) (l2 : Int) (l3 : Int) (l4 : Int) (l5 : Int) (l6 : Int) (hl3 : 0 < l3) (hl4 : 0 < l4) (hl5 : 0 < l5) (hl6 : R32 l6) : Sx Γ (fun h => (h, ts)) (KL Γ (fun h => (h, ts)) okb_X14_lambda_97 K 97 (lvb_X14_lambda_97 Γ) []) 97 [(0, vA (mg Γ) l0), (2, vA (mg Γ) l2), (3, vA (mg Γ) l3), (4, vA (mg Γ) l4), (5, vA (mg Γ) l5), (6, vI l6)] [] (b_X14_lambda_97b rc k_133 l0 l2 l3 l4 l5 l6) := by
  unfold b_X14_lambda_97b
  refine s_iload o dX14_lambda_97 5 rfl ?_
  refine s_aload o dX14_lambda_99 4 rfl ?_
  refine s_alen o dX14_lambda_101 (fun v1 hv1 => ?_)
  refine s_icmp_ge (tgt := 133) o dX14_lambda_102 (by decide) hl6 (rN hv1) ?_ ?_
  · refine r_to [(4, vA (mg Γ) l4), (5, vA (mg Γ) l5)] [3, 4] rfl ?_
    exact s_lo (hk_133 l4 l5 hl4 hl5)
  · refine s_aload o dX14_lambda_105 4 rfl ?_
    refine s_iload o dX14_lambda_107 5 rfl ?_
    refine s_aload_n o dX14_lambda_109 rfl 0 rfl ?_
    refine s_aload_n o dX14_lambda_110 rfl 2 rfl ?_
    refine r_getf (vA (mg Γ)) rfl o cf_X16_free (Or.inr (Or.inl ⟨_, q1155⟩)) dX14_lambda_111 (fun v2 hv2 => ?_)
    refine s_iload o dX14_lambda_114 5 rfl ?_
    refine s_cvC (d := d + 9) (As := [vI l6]) (st := [vA (mg Γ) l0, vI l6, vA (mg Γ) l5]) (c := 27) o (sc_J13_get (mg Γ) (d + 7) ts v2 l6 hl6) mw_J13_get rfl (Or.inl (lw_all_tbl q1266)) rfl (lw_all_tbl q1268) (lw_all_tbl q1267) (wt_A (wt_I (wt_A wt_0))) rfl dX14_lambda_116 rfl (rs := fun r => [vA (mg Γ) r, vA (mg Γ) l0, vI l6, vA (mg Γ) l5]) (fun _ => rfl) (fun v3 hv3 => ?_)
    refine s_cast o (cs_X17 o) (lw_all_tbl q1100) dX14_lambda_119 ?_
    refine s_aload_n o dX14_lambda_122 rfl 1 rfl ?_
    refine s_cvC (d := d + 9) (As := [vA (mg Γ) v3, vA (mg Γ) l2]) (st := [vI l6, vA (mg Γ) l5]) (c := 14) o (sc_X14_use (mg Γ) (d + 2) ts l0 v3 l2) mw_X14_use rfl (Or.inl (lw_all_tbl q1381)) rfl (lw_all_tbl qs42) (lw_all_tbl q1383) (wt_I (wt_A wt_0)) rfl dX14_lambda_123 rfl (rs := fun r => [vA (mg Γ) r, vI l6, vA (mg Γ) l5]) (fun _ => rfl) (fun v4 hv4 => ?_)
    refine s_aast (kd := 5) o (by decide) (as_5 o) (Or.inl ⟨_, rfl⟩) hl6 dX14_lambda_126 ?_
    refine r_iinc (j := 5) o dX14_lambda_127 rfl rfl [(0, vA (mg Γ) l0), (2, vA (mg Γ) l2), (3, vA (mg Γ) l3), (4, vA (mg Γ) l4), (5, vA (mg Γ) l5)] [0, 1, 2, 3, 4] rfl ⟨(Nat.ne_of_beq_eq_false rfl), (fun _ => (vA_cat (mg Γ) l0)), ⟨(Nat.ne_of_beq_eq_false rfl), (fun _ => (vA_cat (mg Γ) l2)), ⟨(Nat.ne_of_beq_eq_false rfl), (fun _ => (vA_cat (mg Γ) l3)), ⟨(Nat.ne_of_beq_eq_false rfl), (fun _ => (vA_cat (mg Γ) l4)), ⟨(Nat.ne_of_beq_eq_false rfl), (fun _ => (vA_cat (mg Γ) l5)), trivial⟩⟩⟩⟩⟩ ?_
    refine s_goto (tgt := 97) o dX14_lambda_130 (by decide) ?_
    refine r_to [(0, vA (mg Γ) l0), (2, vA (mg Γ) l2), (3, vA (mg Γ) l3), (4, vA (mg Γ) l4), (5, vA (mg Γ) l5), (6, vI (w32 (l6 + 1)))] [1, 2, 3, 4, 5, 0] rfl ?_
    exact s_back (⟨hl3, hl4, hl5, (w32_R _)⟩) rfl
noncomputable def b_X14_lambda_97 (rc : Rc) {A : Type} (k_133 : Int → Int → Mo CH A) (l0 : Int) (l2 : Int) (l3 : Int) (l4 : Int) (l5 : Int) (l6 : Int) : Mo CH A := Loop (fun x => b_X14_lambda_97b rc k_133 x.1 x.2.1 x.2.2.1 x.2.2.2.1 x.2.2.2.2.1 x.2.2.2.2.2) (l0, l2, l3, l4, l5, l6)
theorem sb_X14_lambda_97 {Γ : Gm} {ts : TS} {d : Nat} {rc : Rc} (hr : GR_rs (mg Γ) ts (d + 9) rc) (o : Ok Γ "LazyForge$Resolver" cX14_lambda 7 (Option.some (Jvm.ClassFile.FieldType.object "LazyForge$Part")) (d + 10)) {A : Type} {K : A → CH → Prop} (k_133 : Int → Int → Mo CH A) (hk_133 : ∀ (l4 : Int) (l5 : Int), 0 < l4 → 0 < l5 → Sx Γ (fun h => (h, ts)) K 133 [(4, vA (mg Γ) l4), (5, vA (mg Γ) l5)] [] (k_133 l4 l5)) (l0 : Int) (l2 : Int) (l3 : Int) (l4 : Int) (l5 : Int) (l6 : Int) (hl3 : 0 < l3) (hl4 : 0 < l4) (hl5 : 0 < l5) (hl6 : R32 l6) : Sx Γ (fun h => (h, ts)) K 97 [(0, vA (mg Γ) l0), (2, vA (mg Γ) l2), (3, vA (mg Γ) l3), (4, vA (mg Γ) l4), (5, vA (mg Γ) l5), (6, vI l6)] [] (b_X14_lambda_97 rc k_133 l0 l2 l3 l4 l5 l6) :=
  s_loop okb_X14_lambda_97 (lvb_X14_lambda_97 Γ) (fun x hx => sb_X14_lambda_97b hr o k_133 hk_133 x.1 x.2.1 x.2.2.1 x.2.2.2.1 x.2.2.2.2.1 x.2.2.2.2.2 hx.1 hx.2.1 hx.2.2.1 hx.2.2.2) (x := (l0, l2, l3, l4, l5, l6)) ⟨hl3, hl4, hl5, hl6⟩
noncomputable def b_X14_lambda (rc : Rc) (l0 : Int) (l1 : Int) (l2 : Int) : Mo CH Int :=
  bnd (newo 16) fun v1 =>
  bnd (gf [114] 1 l0) fun v2 =>
  bnd (gf [115] 0 v2) fun v3 =>
  bnd (isk 127 v3) fun _ =>
  bnd (c_J13_size v3) fun v4 =>
  bnd (gf [113] 1 l1) fun v5 =>
  bnd (c_X16_init v1 v4 v5 l2) fun _ =>
  bnd (gf [114] 1 l0) fun v6 =>
  bnd (gf [115] 0 v6) fun v7 =>
  bnd (isk 127 v7) fun _ =>
  bnd (c_J13_add v7 v1) fun v8 =>
  bnd (gf [113] 5 l1) fun v9 =>
  bnd (gf [113] 6 l1) fun v10 =>
  bnd (ald 6 v10 0) fun v11 =>
  bnd (isk 114 l0) fun _ =>
  bnd (rc 1 l0 v1 v9 v11 0) fun _ =>
  bnd (gf [116] 6 v1) fun v12 =>
  if ¬ v12 = 0 then
    bnd (newo 19) fun v13 =>
    bnd (c_X19_init v13 v1) fun _ =>
    bnd (gf [116] 4 v1) fun v14 =>
    bnd (isk 127 v14) fun _ =>
    bnd (c_J13_isEmpty v14) fun v15 =>
    if v15 = 0 then
      bnd (gf [116] 4 v1) fun v16 =>
      bnd (isk 127 v16) fun _ =>
      bnd (c_J13_size v16) fun v17 =>
      bnd (newa 5 v17) fun v18 =>
      b_X14_lambda_97 rc
        (fun v19 v20 => bnd (newo 21) fun v21 =>
      bnd (c_X21_init v21 v19 v20) fun _ =>
      pr v21) l0 l2 v1 v13 v18 0
    else
      pr v13
  else
    pr 0
theorem sb_X14_lambda (g : gC) (d : Nat) (ts : TS) (rc : Rc) (hr : GR_rs g ts (d + 9) rc) (l0 : Int) (l1 : Int) (l2 : Int) : SF g yX14_lambda (Cond.code yX14_lambda cX14_lambda 7 (Option.some (Jvm.ClassFile.FieldType.object "LazyForge$Part"))) (Option.some (Jvm.ClassFile.FieldType.object "LazyForge$Part")) (d + 10) [vA g l0, vA g l1, vA g l2] (fun h => (h, ts)) (b_X14_lambda rc l0 l1 l2) := by
  refine SF.of (lv := [(0, vA g l0), (1, vA g l1), (2, vA g l2)]) (by decide) (wt_A (wt_A (wt_A wt_0))) rfl (by simp only [la_A, la_I, la_J, la_0]) (fun Γ hg hnm o => ?_)
  subst hg
  have o : Ok Γ "LazyForge$Resolver" cX14_lambda 7 (Option.some (Jvm.ClassFile.FieldType.object "LazyForge$Part")) (d + 10) := o
  unfold b_X14_lambda
  refine s_new o mk_16 (lw_all_tbl q1135) dX14_lambda_0 (fun v1 hv1 => ?_)
  refine s_dup o dX14_lambda_3 (vA_cat (mg Γ) v1) ?_
  refine s_aload_n o dX14_lambda_4 rfl 0 rfl ?_
  refine r_getf (vA (mg Γ)) rfl o cf_X14_program (Or.inl (lw_all_tbl q1105)) dX14_lambda_5 (fun v2 hv2 => ?_)
  refine r_getf (vA (mg Γ)) rfl o cf_X15_functions (Or.inr (Or.inl ⟨_, q1057⟩)) dX14_lambda_8 (fun v3 hv3 => ?_)
  refine s_cvC (d := d + 9) (As := []) (st := [vA (mg Γ) v1, vA (mg Γ) v1]) (c := 27) o (sc_J13_size (mg Γ) (d + 9) ts v3) mw_J13_size rfl (Or.inl (lw_all_tbl q1357)) rfl (lw_all_tbl q1359) (lw_all_tbl q1358) (wt_A (wt_A wt_0)) rfl dX14_lambda_11 rfl (rs := fun r => [vI r, vA (mg Γ) v1, vA (mg Γ) v1]) (fun _ => rfl) (fun v4 hv4 => ?_)
  refine s_aload_n o dX14_lambda_14 rfl 1 rfl ?_
  refine r_getf vI rfl o cf_X13_place (Or.inr (Or.inl ⟨_, q899⟩)) dX14_lambda_15 (fun v5 hv5 => ?_)
  refine s_aload_n o dX14_lambda_18 rfl 2 rfl ?_
  refine s_ci (d := d + 9) (As := [vI v4, vI v5, vA (mg Γ) l2]) (st := [vA (mg Γ) v1]) o (sc_X16_init (mg Γ) (d + 5) ts v1 v4 v5 l2 hv1 (hv4 _ rfl) hv5) mw_X16_init rfl (Or.inl (lw_all_tbl q1137)) (lw_all_tbl q1138) rfl hv1 (wt_A wt_0) rfl dX14_lambda_19 rfl (fun _ => ?_)
  refine r_astore_n o dX14_lambda_22 rfl rfl ⟨(Nat.ne_of_beq_eq_false rfl), (fun _ => (vA_cat (mg Γ) l0)), ⟨(Nat.ne_of_beq_eq_false rfl), (fun _ => (vA_cat (mg Γ) l1)), ⟨(Nat.ne_of_beq_eq_false rfl), (fun _ => (vA_cat (mg Γ) l2)), trivial⟩⟩⟩ ?_
  refine s_aload_n o dX14_lambda_23 rfl 1 rfl ?_
  refine r_getf (vA (mg Γ)) rfl o cf_X14_program (Or.inl (lw_all_tbl q1105)) dX14_lambda_24 (fun v6 hv6 => ?_)
  refine r_getf (vA (mg Γ)) rfl o cf_X15_functions (Or.inr (Or.inl ⟨_, q1057⟩)) dX14_lambda_27 (fun v7 hv7 => ?_)
  refine s_aload_n o dX14_lambda_30 rfl 0 rfl ?_
  refine s_cvC (d := d + 9) (As := [vA (mg Γ) v1]) (st := []) (c := 27) o (sc_J13_add (mg Γ) (d + 3) ts v7 v1) mw_J13_add rfl (Or.inl (lw_all_tbl q1193)) rfl (lw_all_tbl q1195) (lw_all_tbl q1194) wt_0 rfl dX14_lambda_31 rfl (rs := fun r => [vI r]) (fun _ => rfl) (fun v8 hv8 => ?_)
  refine s_pop o dX14_lambda_34 rfl ?_
  refine s_aload_n o dX14_lambda_35 rfl 1 rfl ?_
  refine s_aload_n o dX14_lambda_36 rfl 0 rfl ?_
  refine s_aload_n o dX14_lambda_37 rfl 2 rfl ?_
  refine r_getf (vA (mg Γ)) rfl o cf_X13_names (Or.inr (Or.inl ⟨_, q907⟩)) dX14_lambda_38 (fun v9 hv9 => ?_)
  refine s_aload_n o dX14_lambda_41 rfl 2 rfl ?_
  refine r_getf (vA (mg Γ)) rfl o cf_X13_kids (Or.inr (Or.inl ⟨_, q909⟩)) dX14_lambda_42 (fun v10 hv10 => ?_)
  refine s_iconst o dX14_lambda_45 ?_
  refine r_aald (kd := 6) o (by decide) rfl (r32 rfl) dX14_lambda_46 (fun v11 => ?_)
  refine s_cvC (d := d + 9) (As := [vA (mg Γ) v1, vA (mg Γ) v9, vA (mg Γ) v11]) (st := []) (c := 14) o (gr_rs_1 hr l0 v1 v9 v11) mw_X14_enter rfl (Or.inl (lw_all_tbl q1278)) rfl (lw_all_tbl qs36) (lw_all_tbl q1280) wt_0 rfl dX14_lambda_47 rfl (rs := fun _ => []) (fun _ => rfl) (fun _ _ => ?_)
  refine s_aload_n o dX14_lambda_50 rfl 0 rfl ?_
  refine r_getf (vA (mg Γ)) rfl o cf_X16_body (Or.inr (Or.inl ⟨_, q1158⟩)) dX14_lambda_51 (fun v12 hv12 => ?_)
  refine s_ifnonnull (tgt := 59) o dX14_lambda_54 (by decide) ?_ ?_
  · refine s_new o mk_19 (lw_all_tbl q1361) dX14_lambda_59 (fun v13 hv13 => ?_)
    refine s_dup o dX14_lambda_62 (vA_cat (mg Γ) v13) ?_
    refine s_aload_n o dX14_lambda_63 rfl 0 rfl ?_
    refine s_ci (d := d + 9) (As := [vA (mg Γ) v1]) (st := [vA (mg Γ) v13]) o (sc_X19_init (mg Γ) (d + 7) ts v13 v1 hv13) mw_X19_init rfl (Or.inl (lw_all_tbl q1363)) (lw_all_tbl q1364) rfl hv13 (wt_A wt_0) rfl dX14_lambda_64 rfl (fun _ => ?_)
    refine r_astore o dX14_lambda_67 rfl ⟨(Nat.ne_of_beq_eq_false rfl), (fun _ => (vA_cat (mg Γ) v1)), ⟨(Nat.ne_of_beq_eq_false rfl), (fun _ => (vA_cat (mg Γ) l0)), ⟨(Nat.ne_of_beq_eq_false rfl), (fun _ => (vA_cat (mg Γ) l1)), ⟨(Nat.ne_of_beq_eq_false rfl), (fun _ => (vA_cat (mg Γ) l2)), trivial⟩⟩⟩⟩ ?_
    refine s_aload_n o dX14_lambda_69 rfl 1 rfl ?_
    refine r_getf (vA (mg Γ)) rfl o cf_X16_free (Or.inr (Or.inl ⟨_, q1155⟩)) dX14_lambda_70 (fun v14 hv14 => ?_)
    refine s_cvC (d := d + 9) (As := []) (st := []) (c := 27) o (sc_J13_isEmpty (mg Γ) (d + 9) ts v14) mw_J13_isEmpty rfl (Or.inl (lw_all_tbl q1377)) rfl (lw_all_tbl q1379) (lw_all_tbl q1378) wt_0 rfl dX14_lambda_73 rfl (rs := fun r => [vI r]) (fun _ => rfl) (fun v15 hv15 => ?_)
    refine s_if_eq (tgt := 82) o dX14_lambda_76 (by decide) (rZ (hv15 _ rfl)) ?_ ?_
    · refine s_aload_n o dX14_lambda_82 rfl 1 rfl ?_
      refine r_getf (vA (mg Γ)) rfl o cf_X16_free (Or.inr (Or.inl ⟨_, q1155⟩)) dX14_lambda_83 (fun v16 hv16 => ?_)
      refine s_cvC (d := d + 9) (As := []) (st := []) (c := 27) o (sc_J13_size (mg Γ) (d + 9) ts v16) mw_J13_size rfl (Or.inl (lw_all_tbl q1357)) rfl (lw_all_tbl q1359) (lw_all_tbl q1358) wt_0 rfl dX14_lambda_86 rfl (rs := fun r => [vI r]) (fun _ => rfl) (fun v17 hv17 => ?_)
      refine s_anew (kd := 5) o (by decide) (Or.inl rfl) (lw_all_tbl q1321) ao_5 (hv17 _ rfl) dX14_lambda_89 (fun v18 hv18 => ?_)
      refine r_astore o dX14_lambda_92 rfl ⟨(Nat.ne_of_beq_eq_false rfl), (fun _ => (vA_cat (mg Γ) v13)), ⟨(Nat.ne_of_beq_eq_false rfl), (fun _ => (vA_cat (mg Γ) v1)), ⟨(Nat.ne_of_beq_eq_false rfl), (fun _ => (vA_cat (mg Γ) l0)), ⟨(Nat.ne_of_beq_eq_false rfl), (fun _ => (vA_cat (mg Γ) l1)), ⟨(Nat.ne_of_beq_eq_false rfl), (fun _ => (vA_cat (mg Γ) l2)), trivial⟩⟩⟩⟩⟩ ?_
      refine s_iconst o dX14_lambda_94 ?_
      refine r_istore o dX14_lambda_95 rfl ⟨(Nat.ne_of_beq_eq_false rfl), (fun _ => (vA_cat (mg Γ) v18)), ⟨(Nat.ne_of_beq_eq_false rfl), (fun _ => (vA_cat (mg Γ) v13)), ⟨(Nat.ne_of_beq_eq_false rfl), (fun _ => (vA_cat (mg Γ) v1)), ⟨(Nat.ne_of_beq_eq_false rfl), (fun _ => (vA_cat (mg Γ) l0)), ⟨(Nat.ne_of_beq_eq_false rfl), (fun _ => (vA_cat (mg Γ) l1)), ⟨(Nat.ne_of_beq_eq_false rfl), (fun _ => (vA_cat (mg Γ) l2)), trivial⟩⟩⟩⟩⟩⟩ ?_
      refine r_to [(0, vA (mg Γ) l0), (2, vA (mg Γ) l2), (3, vA (mg Γ) v1), (4, vA (mg Γ) v13), (5, vA (mg Γ) v18), (6, vI 0)] [4, 6, 3, 2, 1, 0] rfl ?_
      refine sb_X14_lambda_97 hr o _ ?_ l0 l2 v1 v13 v18 0 hv1 hv13 hv18 (r32 rfl)
      · intro v19 v20 hv19 hv20
        refine s_new o mk_21 (lw_all_tbl q1459) dX14_lambda_133 (fun v21 hv21 => ?_)
        refine s_dup o dX14_lambda_136 (vA_cat (mg Γ) v21) ?_
        refine s_aload o dX14_lambda_137 0 rfl ?_
        refine s_aload o dX14_lambda_139 1 rfl ?_
        refine s_ci (d := d + 9) (As := [vA (mg Γ) v19, vA (mg Γ) v20]) (st := [vA (mg Γ) v21]) o (sc_X21_init (mg Γ) (d + 7) ts v21 v19 v20 hv21) mw_X21_init rfl (Or.inl (lw_all_tbl q1461)) (lw_all_tbl q1462) rfl hv21 (wt_A wt_0) rfl dX14_lambda_141 rfl (fun _ => ?_)
        exact s_aret o rfl (Or.inl ⟨_, rfl⟩) dX14_lambda_144 (fun _ hh => hh)
    · refine s_aload o dX14_lambda_79 0 rfl ?_
      exact s_aret o rfl (Or.inl ⟨_, rfl⟩) dX14_lambda_81 (fun _ hh => hh)
  · refine s_null o dX14_lambda_57 ?_
    exact s_aret o rfl (Or.inl ⟨_, rfl⟩) dX14_lambda_58 (fun _ hh => hh)
noncomputable def b_X14_part_104 (rc : Rc)  (l1 : Int) (l3 : Int) (k0 : Int) : Mo CH Int :=
  if ¬ k0 = 0 then
    bnd (newo 23) fun v1 =>
    bnd (gf [113] 2 l1) fun v2 =>
    bnd (c_X23_init v1 v2 l3 k0) fun _ =>
    pr v1
  else
    pr 0
theorem sb_X14_part_104 {Γ : Gm} {ts : TS} {d : Nat} {rc : Rc} (hr : GR_rs (mg Γ) ts (d + 9) rc) (o : Ok Γ "LazyForge$Resolver" cX14_part 5 (Option.some (Jvm.ClassFile.FieldType.object "LazyForge$Part")) (d + 10))   (l1 : Int) (l3 : Int) (k0 : Int) : Sx Γ (fun h => (h, ts)) (fun a s => mt Γ = (0, a, ((s, ts) : Wd))) 104 [(1, vA (mg Γ) l1), (3, vA (mg Γ) l3)] [vA (mg Γ) k0] (b_X14_part_104 rc l1 l3 k0) := by
  unfold b_X14_part_104
  refine r_astore o dX14_part_104 rfl ⟨(Nat.ne_of_beq_eq_false rfl), (fun _ => (vA_cat (mg Γ) l1)), ⟨(Nat.ne_of_beq_eq_false rfl), (fun _ => (vA_cat (mg Γ) l3)), trivial⟩⟩ ?_
  refine s_aload o dX14_part_106 0 rfl ?_
  refine s_ifnonnull (tgt := 115) o dX14_part_108 (by decide) ?_ ?_
  · refine s_new o mk_23 (lw_all_tbl q1516) dX14_part_115 (fun v1 hv1 => ?_)
    refine s_dup o dX14_part_118 (vA_cat (mg Γ) v1) ?_
    refine s_aload_n o dX14_part_119 rfl 1 rfl ?_
    refine r_getf vI rfl o cf_X13_op (Or.inr (Or.inl ⟨_, q901⟩)) dX14_part_120 (fun v2 hv2 => ?_)
    refine s_aload_n o dX14_part_123 rfl 2 rfl ?_
    refine s_aload o dX14_part_124 0 rfl ?_
    refine s_ci (d := d + 9) (As := [vI v2, vA (mg Γ) l3, vA (mg Γ) k0]) (st := [vA (mg Γ) v1]) o (sc_X23_init (mg Γ) (d + 7) ts v1 v2 l3 k0 hv1 hv2) mw_X23_init rfl (Or.inl (lw_all_tbl q1518)) (lw_all_tbl q1519) rfl hv1 (wt_A wt_0) rfl dX14_part_126 rfl (fun _ => ?_)
    exact s_aret o rfl (Or.inl ⟨_, rfl⟩) dX14_part_129 (fun _ hh => hh)
  · refine s_null o dX14_part_111 ?_
    refine s_goto (tgt := 129) o dX14_part_112 (by decide) ?_
    exact s_aret o rfl (Or.inl ⟨_, rfl⟩) dX14_part_129 (fun _ hh => hh)
noncomputable def b_X14_part_165 (rc : Rc)  (l3 : Int) (k0 : Int) : Mo CH Int :=
  if ¬ k0 = 0 then
    bnd (newo 21) fun v1 =>
    bnd (c_X21_init v1 l3 k0) fun _ =>
    pr v1
  else
    pr 0
theorem sb_X14_part_165 {Γ : Gm} {ts : TS} {d : Nat} {rc : Rc} (hr : GR_rs (mg Γ) ts (d + 9) rc) (o : Ok Γ "LazyForge$Resolver" cX14_part 5 (Option.some (Jvm.ClassFile.FieldType.object "LazyForge$Part")) (d + 10))   (l3 : Int) (k0 : Int) : Sx Γ (fun h => (h, ts)) (fun a s => mt Γ = (0, a, ((s, ts) : Wd))) 165 [(3, vA (mg Γ) l3)] [vA (mg Γ) k0] (b_X14_part_165 rc l3 k0) := by
  unfold b_X14_part_165
  refine r_astore o dX14_part_165 rfl ⟨(Nat.ne_of_beq_eq_false rfl), (fun _ => (vA_cat (mg Γ) l3)), trivial⟩ ?_
  refine s_aload o dX14_part_167 0 rfl ?_
  refine s_ifnonnull (tgt := 176) o dX14_part_169 (by decide) ?_ ?_
  · refine s_new o mk_21 (lw_all_tbl q1459) dX14_part_176 (fun v1 hv1 => ?_)
    refine s_dup o dX14_part_179 (vA_cat (mg Γ) v1) ?_
    refine s_aload_n o dX14_part_180 rfl 1 rfl ?_
    refine s_aload o dX14_part_181 0 rfl ?_
    refine s_ci (d := d + 9) (As := [vA (mg Γ) l3, vA (mg Γ) k0]) (st := [vA (mg Γ) v1]) o (sc_X21_init (mg Γ) (d + 7) ts v1 l3 k0 hv1) mw_X21_init rfl (Or.inl (lw_all_tbl q1461)) (lw_all_tbl q1462) rfl hv1 (wt_A wt_0) rfl dX14_part_183 rfl (fun _ => ?_)
    exact s_aret o rfl (Or.inl ⟨_, rfl⟩) dX14_part_186 (fun _ hh => hh)
  · refine s_null o dX14_part_172 ?_
    refine s_goto (tgt := 186) o dX14_part_173 (by decide) ?_
    exact s_aret o rfl (Or.inl ⟨_, rfl⟩) dX14_part_186 (fun _ hh => hh)
noncomputable def b_X14_part (rc : Rc) (l0 : Int) (l1 : Int) (l2 : Int) : Mo CH Int :=
  bnd (gf [113] 0 l1) fun v1 =>
  if v1 = 0 then
    bnd (isk 114 l0) fun _ =>
    bnd (rc 3 l0 l1 l2 0 0) fun v3 =>
    pr v3
  else
    if v1 = 1 then
      bnd (isk 114 l0) fun _ =>
      bnd (rc 2 l0 l1 l2 0 0) fun v5 =>
      pr v5
    else
      if v1 = 2 then
        bnd (isk 114 l0) fun _ =>
        bnd (rc 0 l0 l1 l2 0 0) fun v7 =>
        pr v7
      else
        if v1 = 3 then
          bnd (gf [113] 6 l1) fun v9 =>
          bnd (ald 6 v9 0) fun v10 =>
          bnd (isk 114 l0) fun _ =>
          bnd (rc 4 l0 v10 l2 0 0) fun v11 =>
          if ¬ v11 = 0 then
            bnd (gf [113] 6 l1) fun v12 =>
            bnd (ald 6 v12 1) fun v13 =>
            bnd (isk 114 l0) fun _ =>
            bnd (rc 4 l0 v13 l2 0 0) fun v14 =>
            b_X14_part_104 rc l1 v11 v14
          else
            b_X14_part_104 rc l1 v11 0
        else
          if v1 = 4 then
            bnd (gf [113] 6 l1) fun v16 =>
            bnd (ald 6 v16 0) fun v17 =>
            bnd (isk 114 l0) fun _ =>
            bnd (rc 4 l0 v17 l2 0 0) fun v18 =>
            if ¬ v18 = 0 then
              bnd (gf [113] 6 l1) fun v19 =>
              bnd (gf [113] 6 l1) fun v20 =>
              bnd (aln v20) fun v21 =>
              bnd (isk 114 l0) fun _ =>
              bnd (rc 5 l0 v19 1 v21 l2) fun v22 =>
              b_X14_part_165 rc v18 v22
            else
              b_X14_part_165 rc v18 0
          else
            if v1 = 5 then
              bnd (gf [113] 6 l1) fun v24 =>
              bnd (gf [113] 6 l1) fun v25 =>
              bnd (aln v25) fun v26 =>
              bnd (isk 114 l0) fun _ =>
              bnd (rc 5 l0 v24 0 v26 l2) fun v27 =>
              if ¬ v27 = 0 then
                bnd (aln v27) fun v28 =>
                if ¬ v28 = 0 then
                  bnd (newo 25) fun v29 =>
                  bnd (gf [113] 2 l1) fun v30 =>
                  bnd (c_X25_init v29 v30 v27) fun _ =>
                  pr v29
                else
                  bnd (newo 24) fun v31 =>
                  bnd (gf [113] 2 l1) fun v32 =>
                  bnd (c_X1_atom v32) fun v33 =>
                  bnd (c_X24_init v31 v33) fun _ =>
                  pr v31
              else
                pr 0
            else
              if v1 = 6 then
                bnd (isk 114 l0) fun _ =>
                bnd (c_X14_name l0 l1 l2) fun v35 =>
                pr v35
              else
                if v1 = 7 then
                  bnd (newo 24) fun v37 =>
                  bnd (gf [113] 3 l1) fun v38 =>
                  bnd (c_X1_of v38) fun v39 =>
                  bnd (c_X24_init v37 v39) fun _ =>
                  pr v37
                else
                  bnd (newo 26) fun v40 =>
                  bnd (c_X26_init v40) fun _ =>
                  pr v40
theorem sb_X14_part (g : gC) (d : Nat) (ts : TS) (rc : Rc) (hr : GR_rs g ts (d + 9) rc) (l0 : Int) (l1 : Int) (l2 : Int) : SF g yX14_part (Cond.code yX14_part cX14_part 5 (Option.some (Jvm.ClassFile.FieldType.object "LazyForge$Part"))) (Option.some (Jvm.ClassFile.FieldType.object "LazyForge$Part")) (d + 10) [vA g l0, vA g l1, vA g l2] (fun h => (h, ts)) (b_X14_part rc l0 l1 l2) := by
  refine SF.of (lv := [(0, vA g l0), (1, vA g l1), (2, vA g l2)]) (by decide) (wt_A (wt_A (wt_A wt_0))) rfl (by simp only [la_A, la_I, la_J, la_0]) (fun Γ hg hnm o => ?_)
  subst hg
  have o : Ok Γ "LazyForge$Resolver" cX14_part 5 (Option.some (Jvm.ClassFile.FieldType.object "LazyForge$Part")) (d + 10) := o
  unfold b_X14_part
  refine s_aload_n o dX14_part_0 rfl 1 rfl ?_
  refine r_getf vI rfl o cf_X13_kind (Or.inr (Or.inl ⟨_, q897⟩)) dX14_part_1 (fun v1 hv1 => ?_)
  refine s_case (P := True) (fun e1 => ?_) (fun e1 => ?_)
  · refine s_tabE o e1 dX14_part_4 (r32 rfl) rfl rfl (tgt := 52) (by decide) ?_
    refine s_aload_n o dX14_part_52 rfl 0 rfl ?_
    refine s_aload_n o dX14_part_53 rfl 1 rfl ?_
    refine s_aload_n o dX14_part_54 rfl 2 rfl ?_
    refine s_cvC (d := d + 9) (As := [vA (mg Γ) l1, vA (mg Γ) l2]) (st := []) (c := 14) o (gr_rs_3 hr l0 l1 l2) mw_X14_let rfl (Or.inl (lw_all_tbl q1307)) rfl (lw_all_tbl qs39) (lw_all_tbl q1309) wt_0 rfl dX14_part_55 rfl (rs := fun r => [vA (mg Γ) r]) (fun _ => rfl) (fun v3 hv3 => ?_)
    exact s_aret o rfl (Or.inl ⟨_, rfl⟩) dX14_part_58 (fun _ hh => hh)
  · refine s_case (P := True) (fun e3 => ?_) (fun e3 => ?_)
    · refine s_tabE o e3 dX14_part_4 (r32 rfl) rfl rfl (tgt := 59) (by decide) ?_
      refine s_aload_n o dX14_part_59 rfl 0 rfl ?_
      refine s_aload_n o dX14_part_60 rfl 1 rfl ?_
      refine s_aload_n o dX14_part_61 rfl 2 rfl ?_
      refine s_cvC (d := d + 9) (As := [vA (mg Γ) l1, vA (mg Γ) l2]) (st := []) (c := 14) o (gr_rs_2 hr l0 l1 l2) mw_X14_lambda rfl (Or.inl (lw_all_tbl q1353)) rfl (lw_all_tbl qs41) (lw_all_tbl q1355) wt_0 rfl dX14_part_62 rfl (rs := fun r => [vA (mg Γ) r]) (fun _ => rfl) (fun v5 hv5 => ?_)
      exact s_aret o rfl (Or.inl ⟨_, rfl⟩) dX14_part_65 (fun _ hh => hh)
    · refine s_case (P := True) (fun e5 => ?_) (fun e5 => ?_)
      · refine s_tabE o e5 dX14_part_4 (r32 rfl) rfl rfl (tgt := 66) (by decide) ?_
        refine s_aload_n o dX14_part_66 rfl 0 rfl ?_
        refine s_aload_n o dX14_part_67 rfl 1 rfl ?_
        refine s_aload_n o dX14_part_68 rfl 2 rfl ?_
        refine s_cvC (d := d + 9) (As := [vA (mg Γ) l1, vA (mg Γ) l2]) (st := []) (c := 14) o (gr_rs_0 hr l0 l1 l2) mw_X14_choice rfl (Or.inl (lw_all_tbl q1480)) rfl (lw_all_tbl qs43) (lw_all_tbl q1482) wt_0 rfl dX14_part_69 rfl (rs := fun r => [vA (mg Γ) r]) (fun _ => rfl) (fun v7 hv7 => ?_)
        exact s_aret o rfl (Or.inl ⟨_, rfl⟩) dX14_part_72 (fun _ hh => hh)
      · refine s_case (P := True) (fun e7 => ?_) (fun e7 => ?_)
        · refine s_tabE o e7 dX14_part_4 (r32 rfl) rfl rfl (tgt := 73) (by decide) ?_
          refine s_aload_n o dX14_part_73 rfl 0 rfl ?_
          refine s_aload_n o dX14_part_74 rfl 1 rfl ?_
          refine r_getf (vA (mg Γ)) rfl o cf_X13_kids (Or.inr (Or.inl ⟨_, q909⟩)) dX14_part_75 (fun v9 hv9 => ?_)
          refine s_iconst o dX14_part_78 ?_
          refine r_aald (kd := 6) o (by decide) rfl (r32 rfl) dX14_part_79 (fun v10 => ?_)
          refine s_aload_n o dX14_part_80 rfl 2 rfl ?_
          refine s_cvC (d := d + 9) (As := [vA (mg Γ) v10, vA (mg Γ) l2]) (st := []) (c := 14) o (gr_rs_4 hr l0 v10 l2) mw_X14_part rfl (Or.inl (lw_all_tbl q1303)) rfl (lw_all_tbl qs38) (lw_all_tbl q1305) wt_0 rfl dX14_part_81 rfl (rs := fun r => [vA (mg Γ) r]) (fun _ => rfl) (fun v11 hv11 => ?_)
          refine r_astore_n o dX14_part_84 rfl rfl ⟨(Nat.ne_of_beq_eq_false rfl), (fun _ => (vA_cat (mg Γ) l0)), ⟨(Nat.ne_of_beq_eq_false rfl), (fun _ => (vA_cat (mg Γ) l1)), ⟨(Nat.ne_of_beq_eq_false rfl), (fun _ => (vA_cat (mg Γ) l2)), trivial⟩⟩⟩ ?_
          refine s_aload_n o dX14_part_85 rfl 0 rfl ?_
          refine s_ifnonnull (tgt := 93) o dX14_part_86 (by decide) ?_ ?_
          · refine s_aload_n o dX14_part_93 rfl 1 rfl ?_
            refine s_aload_n o dX14_part_94 rfl 2 rfl ?_
            refine r_getf (vA (mg Γ)) rfl o cf_X13_kids (Or.inr (Or.inl ⟨_, q909⟩)) dX14_part_95 (fun v12 hv12 => ?_)
            refine s_iconst o dX14_part_98 ?_
            refine r_aald (kd := 6) o (by decide) rfl (r32 rfl) dX14_part_99 (fun v13 => ?_)
            refine s_aload_n o dX14_part_100 rfl 3 rfl ?_
            refine s_cvC (d := d + 9) (As := [vA (mg Γ) v13, vA (mg Γ) l2]) (st := []) (c := 14) o (gr_rs_4 hr l0 v13 l2) mw_X14_part rfl (Or.inl (lw_all_tbl q1303)) rfl (lw_all_tbl qs38) (lw_all_tbl q1305) wt_0 rfl dX14_part_101 rfl (rs := fun r => [vA (mg Γ) r]) (fun _ => rfl) (fun v14 hv14 => ?_)
            refine r_to [(1, vA (mg Γ) l1), (3, vA (mg Γ) v11)] [2, 0] rfl ?_
            exact sb_X14_part_104 hr o l1 v11 v14
          · refine s_null o dX14_part_89 ?_
            refine s_goto (tgt := 104) o dX14_part_90 (by decide) ?_
            refine r_to [(1, vA (mg Γ) l1), (3, vA (mg Γ) v11)] [2, 0] rfl ?_
            exact sb_X14_part_104 hr o l1 v11 0
        · refine s_case (P := True) (fun e14 => ?_) (fun e14 => ?_)
          · refine s_tabE o e14 dX14_part_4 (r32 rfl) rfl rfl (tgt := 130) (by decide) ?_
            refine s_aload_n o dX14_part_130 rfl 0 rfl ?_
            refine s_aload_n o dX14_part_131 rfl 1 rfl ?_
            refine r_getf (vA (mg Γ)) rfl o cf_X13_kids (Or.inr (Or.inl ⟨_, q909⟩)) dX14_part_132 (fun v16 hv16 => ?_)
            refine s_iconst o dX14_part_135 ?_
            refine r_aald (kd := 6) o (by decide) rfl (r32 rfl) dX14_part_136 (fun v17 => ?_)
            refine s_aload_n o dX14_part_137 rfl 2 rfl ?_
            refine s_cvC (d := d + 9) (As := [vA (mg Γ) v17, vA (mg Γ) l2]) (st := []) (c := 14) o (gr_rs_4 hr l0 v17 l2) mw_X14_part rfl (Or.inl (lw_all_tbl q1303)) rfl (lw_all_tbl qs38) (lw_all_tbl q1305) wt_0 rfl dX14_part_138 rfl (rs := fun r => [vA (mg Γ) r]) (fun _ => rfl) (fun v18 hv18 => ?_)
            refine r_astore_n o dX14_part_141 rfl rfl ⟨(Nat.ne_of_beq_eq_false rfl), (fun _ => (vA_cat (mg Γ) l0)), ⟨(Nat.ne_of_beq_eq_false rfl), (fun _ => (vA_cat (mg Γ) l1)), ⟨(Nat.ne_of_beq_eq_false rfl), (fun _ => (vA_cat (mg Γ) l2)), trivial⟩⟩⟩ ?_
            refine s_aload_n o dX14_part_142 rfl 0 rfl ?_
            refine s_ifnonnull (tgt := 150) o dX14_part_143 (by decide) ?_ ?_
            · refine s_aload_n o dX14_part_150 rfl 1 rfl ?_
              refine s_aload_n o dX14_part_151 rfl 2 rfl ?_
              refine r_getf (vA (mg Γ)) rfl o cf_X13_kids (Or.inr (Or.inl ⟨_, q909⟩)) dX14_part_152 (fun v19 hv19 => ?_)
              refine s_iconst o dX14_part_155 ?_
              refine s_aload_n o dX14_part_156 rfl 2 rfl ?_
              refine r_getf (vA (mg Γ)) rfl o cf_X13_kids (Or.inr (Or.inl ⟨_, q909⟩)) dX14_part_157 (fun v20 hv20 => ?_)
              refine s_alen o dX14_part_160 (fun v21 hv21 => ?_)
              refine s_aload_n o dX14_part_161 rfl 3 rfl ?_
              refine s_cvC (d := d + 9) (As := [vA (mg Γ) v19, vI 1, vI v21, vA (mg Γ) l2]) (st := []) (c := 14) o (gr_rs_5 hr l0 v19 1 v21 l2 (r32 rfl) (rN hv21)) mw_X14_parts rfl (Or.inl (lw_all_tbl q1317)) rfl (lw_all_tbl qs40) (lw_all_tbl q1319) wt_0 rfl dX14_part_162 rfl (rs := fun r => [vA (mg Γ) r]) (fun _ => rfl) (fun v22 hv22 => ?_)
              refine r_to [(3, vA (mg Γ) v18)] [0] rfl ?_
              exact sb_X14_part_165 hr o v18 v22
            · refine s_null o dX14_part_146 ?_
              refine s_goto (tgt := 165) o dX14_part_147 (by decide) ?_
              refine r_to [(3, vA (mg Γ) v18)] [0] rfl ?_
              exact sb_X14_part_165 hr o v18 0
          · refine s_case (P := True) (fun e22 => ?_) (fun e22 => ?_)
            · refine s_tabE o e22 dX14_part_4 (r32 rfl) rfl rfl (tgt := 187) (by decide) ?_
              refine s_aload_n o dX14_part_187 rfl 0 rfl ?_
              refine s_aload_n o dX14_part_188 rfl 1 rfl ?_
              refine r_getf (vA (mg Γ)) rfl o cf_X13_kids (Or.inr (Or.inl ⟨_, q909⟩)) dX14_part_189 (fun v24 hv24 => ?_)
              refine s_iconst o dX14_part_192 ?_
              refine s_aload_n o dX14_part_193 rfl 1 rfl ?_
              refine r_getf (vA (mg Γ)) rfl o cf_X13_kids (Or.inr (Or.inl ⟨_, q909⟩)) dX14_part_194 (fun v25 hv25 => ?_)
              refine s_alen o dX14_part_197 (fun v26 hv26 => ?_)
              refine s_aload_n o dX14_part_198 rfl 2 rfl ?_
              refine s_cvC (d := d + 9) (As := [vA (mg Γ) v24, vI 0, vI v26, vA (mg Γ) l2]) (st := []) (c := 14) o (gr_rs_5 hr l0 v24 0 v26 l2 (r32 rfl) (rN hv26)) mw_X14_parts rfl (Or.inl (lw_all_tbl q1317)) rfl (lw_all_tbl qs40) (lw_all_tbl q1319) wt_0 rfl dX14_part_199 rfl (rs := fun r => [vA (mg Γ) r]) (fun _ => rfl) (fun v27 hv27 => ?_)
              refine r_astore_n o dX14_part_202 rfl rfl ⟨(Nat.ne_of_beq_eq_false rfl), (fun _ => (vA_cat (mg Γ) l0)), ⟨(Nat.ne_of_beq_eq_false rfl), (fun _ => (vA_cat (mg Γ) l1)), ⟨(Nat.ne_of_beq_eq_false rfl), (fun _ => (vA_cat (mg Γ) l2)), trivial⟩⟩⟩ ?_
              refine s_aload_n o dX14_part_203 rfl 0 rfl ?_
              refine s_ifnonnull (tgt := 211) o dX14_part_204 (by decide) ?_ ?_
              · refine s_aload_n o dX14_part_211 rfl 0 rfl ?_
                refine s_alen o dX14_part_212 (fun v28 hv28 => ?_)
                refine s_if_ne (tgt := 233) o dX14_part_213 (by decide) (rN hv28) ?_ ?_
                · refine s_new o mk_25 (lw_all_tbl q1559) dX14_part_233 (fun v29 hv29 => ?_)
                  refine s_dup o dX14_part_236 (vA_cat (mg Γ) v29) ?_
                  refine s_aload_n o dX14_part_237 rfl 2 rfl ?_
                  refine r_getf vI rfl o cf_X13_op (Or.inr (Or.inl ⟨_, q901⟩)) dX14_part_238 (fun v30 hv30 => ?_)
                  refine s_aload_n o dX14_part_241 rfl 0 rfl ?_
                  refine s_ci (d := d + 9) (As := [vI v30, vA (mg Γ) v27]) (st := [vA (mg Γ) v29]) o (sc_X25_init (mg Γ) (d + 7) ts v29 v30 v27 hv29 hv30) mw_X25_init rfl (Or.inl (lw_all_tbl q1561)) (lw_all_tbl q1562) rfl hv29 (wt_A wt_0) rfl dX14_part_242 rfl (fun _ => ?_)
                  exact s_aret o rfl (Or.inl ⟨_, rfl⟩) dX14_part_245 (fun _ hh => hh)
                · refine s_new o mk_24 (lw_all_tbl q1540) dX14_part_216 (fun v31 hv31 => ?_)
                  refine s_dup o dX14_part_219 (vA_cat (mg Γ) v31) ?_
                  refine s_aload_n o dX14_part_220 rfl 2 rfl ?_
                  refine r_getf vI rfl o cf_X13_op (Or.inr (Or.inl ⟨_, q901⟩)) dX14_part_221 (fun v32 hv32 => ?_)
                  refine s_cs (d := d + 9) (As := [vI v32]) (st := [vA (mg Γ) v31, vA (mg Γ) v31]) o (sc_X1_atom (mg Γ) (d + 9) ts v32 hv32) mw_X1_atom rfl (Or.inr ⟨_, q1542⟩) (lw_all_tbl q1543) (wt_A (wt_A wt_0)) rfl dX14_part_224 rfl (rs := fun r => [vJ r, vA (mg Γ) v31, vA (mg Γ) v31]) (fun _ => rfl) (fun v33 hv33 => ?_)
                  refine s_ci (d := d + 9) (As := [vJ v33]) (st := [vA (mg Γ) v31]) o (sc_X24_init (mg Γ) (d + 7) ts v31 v33 hv31 (hv33 _ rfl)) mw_X24_init rfl (Or.inl (lw_all_tbl q1546)) (lw_all_tbl q1547) rfl hv31 (wt_A wt_0) rfl dX14_part_227 rfl (fun _ => ?_)
                  refine s_goto (tgt := 245) o dX14_part_230 (by decide) ?_
                  exact s_aret o rfl (Or.inl ⟨_, rfl⟩) dX14_part_245 (fun _ hh => hh)
              · refine s_null o dX14_part_207 ?_
                refine s_goto (tgt := 245) o dX14_part_208 (by decide) ?_
                exact s_aret o rfl (Or.inl ⟨_, rfl⟩) dX14_part_245 (fun _ hh => hh)
            · refine s_case (P := True) (fun e33 => ?_) (fun e33 => ?_)
              · refine s_tabE o e33 dX14_part_4 (r32 rfl) rfl rfl (tgt := 246) (by decide) ?_
                refine s_aload_n o dX14_part_246 rfl 0 rfl ?_
                refine s_aload_n o dX14_part_247 rfl 1 rfl ?_
                refine s_aload_n o dX14_part_248 rfl 2 rfl ?_
                refine s_cvC (d := d + 9) (As := [vA (mg Γ) l1, vA (mg Γ) l2]) (st := []) (c := 14) o (sc_X14_name (mg Γ) (d + 1) ts l0 l1 l2) mw_X14_name rfl (Or.inl (lw_all_tbl q1580)) rfl (lw_all_tbl qs44) (lw_all_tbl q1582) wt_0 rfl dX14_part_249 rfl (rs := fun r => [vA (mg Γ) r]) (fun _ => rfl) (fun v35 hv35 => ?_)
                exact s_aret o rfl (Or.inl ⟨_, rfl⟩) dX14_part_252 (fun _ hh => hh)
              · refine s_case (P := True) (fun e35 => ?_) (fun e35 => ?_)
                · refine s_tabE o e35 dX14_part_4 (r32 rfl) rfl rfl (tgt := 253) (by decide) ?_
                  refine s_new o mk_24 (lw_all_tbl q1540) dX14_part_253 (fun v37 hv37 => ?_)
                  refine s_dup o dX14_part_256 (vA_cat (mg Γ) v37) ?_
                  refine s_aload_n o dX14_part_257 rfl 1 rfl ?_
                  refine r_getf vI rfl o cf_X13_number (Or.inr (Or.inl ⟨_, q903⟩)) dX14_part_258 (fun v38 hv38 => ?_)
                  refine s_cs (d := d + 9) (As := [vI v38]) (st := [vA (mg Γ) v37, vA (mg Γ) v37]) o (sc_X1_of (mg Γ) (d + 9) ts v38 hv38) mw_X1_of rfl (Or.inr ⟨_, q1588⟩) (lw_all_tbl q1589) (wt_A (wt_A wt_0)) rfl dX14_part_261 rfl (rs := fun r => [vJ r, vA (mg Γ) v37, vA (mg Γ) v37]) (fun _ => rfl) (fun v39 hv39 => ?_)
                  refine s_ci (d := d + 9) (As := [vJ v39]) (st := [vA (mg Γ) v37]) o (sc_X24_init (mg Γ) (d + 7) ts v37 v39 hv37 (hv39 _ rfl)) mw_X24_init rfl (Or.inl (lw_all_tbl q1546)) (lw_all_tbl q1547) rfl hv37 (wt_A wt_0) rfl dX14_part_264 rfl (fun _ => ?_)
                  exact s_aret o rfl (Or.inl ⟨_, rfl⟩) dX14_part_267 (fun _ hh => hh)
                · refine s_tabOut o dX14_part_4 hv1 (by omega) (tgt := 268) (by decide) ?_
                  refine s_new o mk_26 (lw_all_tbl q1592) dX14_part_268 (fun v40 hv40 => ?_)
                  refine s_dup o dX14_part_271 (vA_cat (mg Γ) v40) ?_
                  refine s_ci (d := d + 9) (As := []) (st := [vA (mg Γ) v40]) o (sc_X26_init (mg Γ) (d + 7) ts v40 hv40) mw_X26_init rfl (Or.inr ⟨_, q1594⟩) (lw_all_tbl q1595) rfl hv40 (wt_A wt_0) rfl dX14_part_272 rfl (fun _ => ?_)
                  exact s_aret o rfl (Or.inl ⟨_, rfl⟩) dX14_part_275 (fun _ hh => hh)
abbrev okb_X14_choice_68 (x : Int × Int × Int × Int × Int × Int × Int × Int × Int × Int) : Prop := 0 < x.2.2.2.2.1 ∧ 0 < x.2.2.2.2.2.1 ∧ R32 x.2.2.2.2.2.2.1 ∧ R32 x.2.2.2.2.2.2.2.1 ∧ 0 < x.2.2.2.2.2.2.2.2.1 ∧ R32 x.2.2.2.2.2.2.2.2.2
abbrev lvb_X14_choice_68 (Γ : Gm) (x : Int × Int × Int × Int × Int × Int × Int × Int × Int × Int) : List (Nat × Value) := [(0, vA (mg Γ) x.1), (1, vA (mg Γ) x.2.1), (2, vA (mg Γ) x.2.2.1), (3, vA (mg Γ) x.2.2.2.1), (4, vA (mg Γ) x.2.2.2.2.1), (5, vA (mg Γ) x.2.2.2.2.2.1), (6, vI x.2.2.2.2.2.2.1), (7, vI x.2.2.2.2.2.2.2.1), (8, vA (mg Γ) x.2.2.2.2.2.2.2.2.1), (9, vI x.2.2.2.2.2.2.2.2.2)]
noncomputable def b_X14_choice_68b (rc : Rc) {A : Type} (k_110 : Int → Int → Int → Int → Int → Int → Int → Int → Int → Mo CH A) (l0 : Int) (l1 : Int) (l2 : Int) (l3 : Int) (l4 : Int) (l5 : Int) (l6 : Int) (l7 : Int) (l8 : Int) (l9 : Int) : Mo CH ((Int × Int × Int × Int × Int × Int × Int × Int × Int × Int) ⊕ A) :=
  bnd (aln l8) fun v1 =>
  if v1 ≤ l9 then
    lo (k_110 l0 l1 l2 l3 l4 l5 l6 l7 l8)
  else
    bnd (isk 116 l2) fun _ =>
    bnd (c_X16_local l2) fun v2 =>
    bnd (asq 7 l8 l9 v2) fun _ =>
    bnd (gf [113] 9 l1) fun v3 =>
    bnd (ald 8 v3 l6) fun v4 =>
    bnd (ald 1 v4 l9) fun v5 =>
    bnd (ald 7 l8 l9) fun v6 =>
    bnd (isk 114 l0) fun _ =>
    bnd (c_X14_show l0 v5 v6) fun _ =>
    pr (.inl (l0, l1, l2, l3, l4, l5, l6, l7, l8, (w32 (l9 + 1))))
theorem sb_X14_choice_68b {Γ : Gm} {ts : TS} {d : Nat} {rc : Rc} (hr : GR_rs (mg Γ) ts (d + 9) rc) (o : Ok Γ "LazyForge$Resolver" cX14_choice 10 (Option.some (Jvm.ClassFile.FieldType.object "LazyForge$Part")) (d + 10)) {A : Type} {K : A → CH → Prop} (k_110 : Int → Int → Int → Int → Int → Int → Int → Int → Int → Mo CH A) (hk_110 : ∀ (l0 : Int) (l1 : Int) (l2 : Int) (l3 : Int) (l4 : Int) (l5 : Int) (l6 : Int) (l7 : Int) (l8 : Int), 0 < l4 → 0 < l5 → R32 l6 → R32 l7 → 0 < l8 → Sx Γ (fun h => (h, ts)) K 110 [(0, vA (mg Γ) l0), (1, vA (mg Γ) l1), (2, vA (mg Γ) l2), (3, vA (mg Γ) l3), (4, vA (mg Γ) l4), (5, vA (mg Γ) l5), (6, vI l6), (7, vI l7), (8, vA (mg Γ) l8)] [] (k_110 l0 l1 l2 l3 l4 l5 l6 l7 l8)) (l0 : Int) (l1 : Int) (l2 : Int) (l3 : Int) (l4 : Int) (l5 : Int) (l6 : Int) (l7 : Int) (l8 : Int) (l9 : Int) (hl4 : 0 < l4) (hl5 : 0 < l5) (hl6 : R32 l6) (hl7 : R32 l7) (hl8 : 0 < l8) (hl9 : R32 l9) : Sx Γ (fun h => (h, ts)) (KL Γ (fun h => (h, ts)) okb_X14_choice_68 K 68 (lvb_X14_choice_68 Γ) []) 68 [(0, vA (mg Γ) l0), (1, vA (mg Γ) l1), (2, vA (mg Γ) l2), (3, vA (mg Γ) l3), (4, vA (mg Γ) l4), (5, vA (mg Γ) l5), (6, vI l6), (7, vI l7), (8, vA (mg Γ) l8), (9, vI l9)] [] (b_X14_choice_68b rc k_110 l0 l1 l2 l3 l4 l5 l6 l7 l8 l9) := by
  unfold b_X14_choice_68b
  refine s_iload o dX14_choice_68 9 rfl ?_
  refine s_aload o dX14_choice_70 8 rfl ?_
  refine s_alen o dX14_choice_72 (fun v1 hv1 => ?_)
  refine s_icmp_ge (tgt := 110) o dX14_choice_73 (by decide) hl9 (rN hv1) ?_ ?_
  · refine r_to [(0, vA (mg Γ) l0), (1, vA (mg Γ) l1), (2, vA (mg Γ) l2), (3, vA (mg Γ) l3), (4, vA (mg Γ) l4), (5, vA (mg Γ) l5), (6, vI l6), (7, vI l7), (8, vA (mg Γ) l8)] [0, 1, 2, 3, 4, 5, 6, 7, 8] rfl ?_
    exact s_lo (hk_110 l0 l1 l2 l3 l4 l5 l6 l7 l8 hl4 hl5 hl6 hl7 hl8)
  · refine s_aload o dX14_choice_76 8 rfl ?_
    refine s_iload o dX14_choice_78 9 rfl ?_
    refine s_aload_n o dX14_choice_80 rfl 2 rfl ?_
    refine s_cvC (d := d + 9) (As := []) (st := [vI l9, vA (mg Γ) l8]) (c := 16) o (sc_X16_local (mg Γ) (d + 2) ts l2) mw_X16_local rfl (Or.inl (lw_all_tbl q1311)) rfl (lw_all_tbl q1313) (lw_all_tbl q1312) (wt_I (wt_A wt_0)) rfl dX14_choice_81 rfl (rs := fun r => [vA (mg Γ) r, vI l9, vA (mg Γ) l8]) (fun _ => rfl) (fun v2 hv2 => ?_)
    refine s_aast (kd := 7) o (by decide) (as_7 o) (Or.inl ⟨_, rfl⟩) hl9 dX14_choice_84 ?_
    refine s_aload_n o dX14_choice_85 rfl 0 rfl ?_
    refine s_aload_n o dX14_choice_86 rfl 1 rfl ?_
    refine r_getf (vA (mg Γ)) rfl o cf_X13_bound (Or.inr (Or.inl ⟨_, q915⟩)) dX14_choice_87 (fun v3 hv3 => ?_)
    refine s_iload o dX14_choice_90 6 rfl ?_
    refine r_aald (kd := 8) o (by decide) rfl hl6 dX14_choice_92 (fun v4 => ?_)
    refine s_iload o dX14_choice_93 9 rfl ?_
    refine r_lald o hl9 dX14_choice_95 (fun v5 hv5 => ?_)
    refine s_aload o dX14_choice_96 8 rfl ?_
    refine s_iload o dX14_choice_98 9 rfl ?_
    refine r_aald (kd := 7) o (by decide) rfl hl9 dX14_choice_100 (fun v6 => ?_)
    refine s_cvC (d := d + 9) (As := [vJ v5, vA (mg Γ) v6]) (st := []) (c := 14) o (sc_X14_show (mg Γ) (d + 8) ts l0 v5 v6 hv5) mw_X14_show rfl (Or.inl (lw_all_tbl q1298)) rfl (lw_all_tbl qs37) (lw_all_tbl q1300) wt_0 rfl dX14_choice_101 rfl (rs := fun _ => []) (fun _ => rfl) (fun _ _ => ?_)
    refine r_iinc (j := 9) o dX14_choice_104 rfl rfl [(0, vA (mg Γ) l0), (1, vA (mg Γ) l1), (2, vA (mg Γ) l2), (3, vA (mg Γ) l3), (4, vA (mg Γ) l4), (5, vA (mg Γ) l5), (6, vI l6), (7, vI l7), (8, vA (mg Γ) l8)] [0, 1, 2, 3, 4, 5, 6, 7, 8] rfl ⟨(Nat.ne_of_beq_eq_false rfl), (fun _ => (vA_cat (mg Γ) l0)), ⟨(Nat.ne_of_beq_eq_false rfl), (fun _ => (vA_cat (mg Γ) l1)), ⟨(Nat.ne_of_beq_eq_false rfl), (fun _ => (vA_cat (mg Γ) l2)), ⟨(Nat.ne_of_beq_eq_false rfl), (fun _ => (vA_cat (mg Γ) l3)), ⟨(Nat.ne_of_beq_eq_false rfl), (fun _ => (vA_cat (mg Γ) l4)), ⟨(Nat.ne_of_beq_eq_false rfl), (fun _ => (vA_cat (mg Γ) l5)), ⟨(Nat.ne_of_beq_eq_false rfl), (fun _ => rfl), ⟨(Nat.ne_of_beq_eq_false rfl), (fun _ => rfl), ⟨(Nat.ne_of_beq_eq_false rfl), (fun _ => (vA_cat (mg Γ) l8)), trivial⟩⟩⟩⟩⟩⟩⟩⟩⟩ ?_
    refine s_goto (tgt := 68) o dX14_choice_107 (by decide) ?_
    refine r_to [(0, vA (mg Γ) l0), (1, vA (mg Γ) l1), (2, vA (mg Γ) l2), (3, vA (mg Γ) l3), (4, vA (mg Γ) l4), (5, vA (mg Γ) l5), (6, vI l6), (7, vI l7), (8, vA (mg Γ) l8), (9, vI (w32 (l9 + 1)))] [1, 2, 3, 4, 5, 6, 7, 8, 9, 0] rfl ?_
    exact s_back (⟨hl4, hl5, hl6, hl7, hl8, (w32_R _)⟩) rfl
noncomputable def b_X14_choice_68 (rc : Rc) {A : Type} (k_110 : Int → Int → Int → Int → Int → Int → Int → Int → Int → Mo CH A) (l0 : Int) (l1 : Int) (l2 : Int) (l3 : Int) (l4 : Int) (l5 : Int) (l6 : Int) (l7 : Int) (l8 : Int) (l9 : Int) : Mo CH A := Loop (fun x => b_X14_choice_68b rc k_110 x.1 x.2.1 x.2.2.1 x.2.2.2.1 x.2.2.2.2.1 x.2.2.2.2.2.1 x.2.2.2.2.2.2.1 x.2.2.2.2.2.2.2.1 x.2.2.2.2.2.2.2.2.1 x.2.2.2.2.2.2.2.2.2) (l0, l1, l2, l3, l4, l5, l6, l7, l8, l9)
theorem sb_X14_choice_68 {Γ : Gm} {ts : TS} {d : Nat} {rc : Rc} (hr : GR_rs (mg Γ) ts (d + 9) rc) (o : Ok Γ "LazyForge$Resolver" cX14_choice 10 (Option.some (Jvm.ClassFile.FieldType.object "LazyForge$Part")) (d + 10)) {A : Type} {K : A → CH → Prop} (k_110 : Int → Int → Int → Int → Int → Int → Int → Int → Int → Mo CH A) (hk_110 : ∀ (l0 : Int) (l1 : Int) (l2 : Int) (l3 : Int) (l4 : Int) (l5 : Int) (l6 : Int) (l7 : Int) (l8 : Int), 0 < l4 → 0 < l5 → R32 l6 → R32 l7 → 0 < l8 → Sx Γ (fun h => (h, ts)) K 110 [(0, vA (mg Γ) l0), (1, vA (mg Γ) l1), (2, vA (mg Γ) l2), (3, vA (mg Γ) l3), (4, vA (mg Γ) l4), (5, vA (mg Γ) l5), (6, vI l6), (7, vI l7), (8, vA (mg Γ) l8)] [] (k_110 l0 l1 l2 l3 l4 l5 l6 l7 l8)) (l0 : Int) (l1 : Int) (l2 : Int) (l3 : Int) (l4 : Int) (l5 : Int) (l6 : Int) (l7 : Int) (l8 : Int) (l9 : Int) (hl4 : 0 < l4) (hl5 : 0 < l5) (hl6 : R32 l6) (hl7 : R32 l7) (hl8 : 0 < l8) (hl9 : R32 l9) : Sx Γ (fun h => (h, ts)) K 68 [(0, vA (mg Γ) l0), (1, vA (mg Γ) l1), (2, vA (mg Γ) l2), (3, vA (mg Γ) l3), (4, vA (mg Γ) l4), (5, vA (mg Γ) l5), (6, vI l6), (7, vI l7), (8, vA (mg Γ) l8), (9, vI l9)] [] (b_X14_choice_68 rc k_110 l0 l1 l2 l3 l4 l5 l6 l7 l8 l9) :=
  s_loop okb_X14_choice_68 (lvb_X14_choice_68 Γ) (fun x hx => sb_X14_choice_68b hr o k_110 hk_110 x.1 x.2.1 x.2.2.1 x.2.2.2.1 x.2.2.2.2.1 x.2.2.2.2.2.1 x.2.2.2.2.2.2.1 x.2.2.2.2.2.2.2.1 x.2.2.2.2.2.2.2.2.1 x.2.2.2.2.2.2.2.2.2 hx.1 hx.2.1 hx.2.2.1 hx.2.2.2.1 hx.2.2.2.2.1 hx.2.2.2.2.2) (x := (l0, l1, l2, l3, l4, l5, l6, l7, l8, l9)) ⟨hl4, hl5, hl6, hl7, hl8, hl9⟩
abbrev okb_X14_choice_33 (x : Int × Int × Int × Int × Int × Int × Int) : Prop := 0 < x.2.2.2.2.1 ∧ 0 < x.2.2.2.2.2.1 ∧ R32 x.2.2.2.2.2.2
abbrev lvb_X14_choice_33 (Γ : Gm) (x : Int × Int × Int × Int × Int × Int × Int) : List (Nat × Value) := [(0, vA (mg Γ) x.1), (1, vA (mg Γ) x.2.1), (2, vA (mg Γ) x.2.2.1), (3, vA (mg Γ) x.2.2.2.1), (4, vA (mg Γ) x.2.2.2.2.1), (5, vA (mg Γ) x.2.2.2.2.2.1), (6, vI x.2.2.2.2.2.2)]
noncomputable def b_X14_choice_33b (rc : Rc) {A : Type} (k_144 : Mo CH A) (k_159 : Int → Int → Int → Int → Mo CH A) (l0 : Int) (l1 : Int) (l2 : Int) (l3 : Int) (l4 : Int) (l5 : Int) (l6 : Int) : Mo CH ((Int × Int × Int × Int × Int × Int × Int) ⊕ A) :=
  bnd (gf [113] 3 l1) fun v1 =>
  if v1 ≤ l6 then
    lo (k_159 l1 l3 l4 l5)
  else
    if l3 = 0 then
      lo (k_159 l1 l3 l4 l5)
    else
      bnd (gf [114] 4 l0) fun v2 =>
      bnd (gf [113] 9 l1) fun v3 =>
      bnd (ald 8 v3 l6) fun v4 =>
      bnd (aln v4) fun v5 =>
      bnd (newa 7 v5) fun v6 =>
      b_X14_choice_68 rc
        (fun v7 v8 v9 v10 v11 v12 v13 v14 v15 => bnd (asq 9 v12 v13 v15) fun _ =>
      bnd (gf [113] 6 v8) fun v16 =>
      bnd (ald 6 v16 (w32 (v13 + 1))) fun v17 =>
      bnd (isk 114 v7) fun _ =>
      bnd (rc 4 v7 v17 v9 0 0) fun v18 =>
      bnd (pf [114] 4 v7 v14) fun _ =>
      if ¬ v18 = 0 then
        bnd (asq 5 v11 v13 v18) fun _ =>
        pr (.inl (v7, v8, v9, v10, v11, v12, (w32 (v13 + 1))))
      else
        lo k_144) l0 l1 l2 l3 l4 l5 l6 v2 v6 0
theorem sb_X14_choice_33b {Γ : Gm} {ts : TS} {d : Nat} {rc : Rc} (hr : GR_rs (mg Γ) ts (d + 9) rc) (o : Ok Γ "LazyForge$Resolver" cX14_choice 10 (Option.some (Jvm.ClassFile.FieldType.object "LazyForge$Part")) (d + 10)) {A : Type} {K : A → CH → Prop} (k_144 : Mo CH A) (k_159 : Int → Int → Int → Int → Mo CH A) (hk_144 : Sx Γ (fun h => (h, ts)) K 144 [] [] (k_144)) (hk_159 : ∀ (l1 : Int) (l3 : Int) (l4 : Int) (l5 : Int), 0 < l4 → 0 < l5 → Sx Γ (fun h => (h, ts)) K 159 [(1, vA (mg Γ) l1), (3, vA (mg Γ) l3), (4, vA (mg Γ) l4), (5, vA (mg Γ) l5)] [] (k_159 l1 l3 l4 l5)) (l0 : Int) (l1 : Int) (l2 : Int) (l3 : Int) (l4 : Int) (l5 : Int) (l6 : Int) (hl4 : 0 < l4) (hl5 : 0 < l5) (hl6 : R32 l6) : Sx Γ (fun h => (h, ts)) (KL Γ (fun h => (h, ts)) okb_X14_choice_33 K 33 (lvb_X14_choice_33 Γ) []) 33 [(0, vA (mg Γ) l0), (1, vA (mg Γ) l1), (2, vA (mg Γ) l2), (3, vA (mg Γ) l3), (4, vA (mg Γ) l4), (5, vA (mg Γ) l5), (6, vI l6)] [] (b_X14_choice_33b rc k_144 k_159 l0 l1 l2 l3 l4 l5 l6) := by
  unfold b_X14_choice_33b
  refine s_iload o dX14_choice_33 6 rfl ?_
  refine s_aload_n o dX14_choice_35 rfl 1 rfl ?_
  refine r_getf vI rfl o cf_X13_number (Or.inr (Or.inl ⟨_, q903⟩)) dX14_choice_36 (fun v1 hv1 => ?_)
  refine s_icmp_ge (tgt := 159) o dX14_choice_39 (by decide) hl6 hv1 ?_ ?_
  · refine r_to [(1, vA (mg Γ) l1), (3, vA (mg Γ) l3), (4, vA (mg Γ) l4), (5, vA (mg Γ) l5)] [1, 3, 4, 5] rfl ?_
    exact s_lo (hk_159 l1 l3 l4 l5 hl4 hl5)
  · refine s_aload_n o dX14_choice_42 rfl 3 rfl ?_
    refine s_ifnull (tgt := 159) o dX14_choice_43 (by decide) ?_ ?_
    · refine r_to [(1, vA (mg Γ) l1), (3, vA (mg Γ) l3), (4, vA (mg Γ) l4), (5, vA (mg Γ) l5)] [1, 3, 4, 5] rfl ?_
      exact s_lo (hk_159 l1 l3 l4 l5 hl4 hl5)
    · refine s_aload_n o dX14_choice_46 rfl 0 rfl ?_
      refine r_getf vI rfl o cf_X14_seen (Or.inl (lw_all_tbl q1108)) dX14_choice_47 (fun v2 hv2 => ?_)
      refine r_istore o dX14_choice_50 rfl ⟨(Nat.ne_of_beq_eq_false rfl), (fun _ => (vA_cat (mg Γ) l0)), ⟨(Nat.ne_of_beq_eq_false rfl), (fun _ => (vA_cat (mg Γ) l1)), ⟨(Nat.ne_of_beq_eq_false rfl), (fun _ => (vA_cat (mg Γ) l2)), ⟨(Nat.ne_of_beq_eq_false rfl), (fun _ => (vA_cat (mg Γ) l3)), ⟨(Nat.ne_of_beq_eq_false rfl), (fun _ => (vA_cat (mg Γ) l4)), ⟨(Nat.ne_of_beq_eq_false rfl), (fun _ => (vA_cat (mg Γ) l5)), ⟨(Nat.ne_of_beq_eq_false rfl), (fun _ => rfl), trivial⟩⟩⟩⟩⟩⟩⟩ ?_
      refine s_aload_n o dX14_choice_52 rfl 2 rfl ?_
      refine r_getf (vA (mg Γ)) rfl o cf_X13_bound (Or.inr (Or.inl ⟨_, q915⟩)) dX14_choice_53 (fun v3 hv3 => ?_)
      refine s_iload o dX14_choice_56 7 rfl ?_
      refine r_aald (kd := 8) o (by decide) rfl hl6 dX14_choice_58 (fun v4 => ?_)
      refine s_alen o dX14_choice_59 (fun v5 hv5 => ?_)
      refine s_anew (kd := 7) o (by decide) (Or.inl rfl) (lw_all_tbl q1100) ao_7 (rN hv5) dX14_choice_60 (fun v6 hv6 => ?_)
      refine r_astore o dX14_choice_63 rfl ⟨(Nat.ne_of_beq_eq_false rfl), (fun _ => rfl), ⟨(Nat.ne_of_beq_eq_false rfl), (fun _ => (vA_cat (mg Γ) l0)), ⟨(Nat.ne_of_beq_eq_false rfl), (fun _ => (vA_cat (mg Γ) l1)), ⟨(Nat.ne_of_beq_eq_false rfl), (fun _ => (vA_cat (mg Γ) l2)), ⟨(Nat.ne_of_beq_eq_false rfl), (fun _ => (vA_cat (mg Γ) l3)), ⟨(Nat.ne_of_beq_eq_false rfl), (fun _ => (vA_cat (mg Γ) l4)), ⟨(Nat.ne_of_beq_eq_false rfl), (fun _ => (vA_cat (mg Γ) l5)), ⟨(Nat.ne_of_beq_eq_false rfl), (fun _ => rfl), trivial⟩⟩⟩⟩⟩⟩⟩⟩ ?_
      refine s_iconst o dX14_choice_65 ?_
      refine r_istore o dX14_choice_66 rfl ⟨(Nat.ne_of_beq_eq_false rfl), (fun _ => (vA_cat (mg Γ) v6)), ⟨(Nat.ne_of_beq_eq_false rfl), (fun _ => rfl), ⟨(Nat.ne_of_beq_eq_false rfl), (fun _ => (vA_cat (mg Γ) l0)), ⟨(Nat.ne_of_beq_eq_false rfl), (fun _ => (vA_cat (mg Γ) l1)), ⟨(Nat.ne_of_beq_eq_false rfl), (fun _ => (vA_cat (mg Γ) l2)), ⟨(Nat.ne_of_beq_eq_false rfl), (fun _ => (vA_cat (mg Γ) l3)), ⟨(Nat.ne_of_beq_eq_false rfl), (fun _ => (vA_cat (mg Γ) l4)), ⟨(Nat.ne_of_beq_eq_false rfl), (fun _ => (vA_cat (mg Γ) l5)), ⟨(Nat.ne_of_beq_eq_false rfl), (fun _ => rfl), trivial⟩⟩⟩⟩⟩⟩⟩⟩⟩ ?_
      refine r_to [(0, vA (mg Γ) l0), (1, vA (mg Γ) l1), (2, vA (mg Γ) l2), (3, vA (mg Γ) l3), (4, vA (mg Γ) l4), (5, vA (mg Γ) l5), (6, vI l6), (7, vI v2), (8, vA (mg Γ) v6), (9, vI 0)] [3, 4, 5, 6, 7, 8, 9, 2, 1, 0] rfl ?_
      refine sb_X14_choice_68 hr o _ ?_ l0 l1 l2 l3 l4 l5 l6 v2 v6 0 hl4 hl5 hl6 hv2 hv6 (r32 rfl)
      · intro v7 v8 v9 v10 v11 v12 v13 v14 v15 hv11 hv12 hv13 hv14 hv15
        refine s_aload o dX14_choice_110 5 rfl ?_
        refine s_iload o dX14_choice_112 6 rfl ?_
        refine s_aload o dX14_choice_114 8 rfl ?_
        refine s_aast (kd := 9) o (by decide) (as_9 o) (Or.inr rfl) hv13 dX14_choice_116 ?_
        refine s_aload_n o dX14_choice_117 rfl 0 rfl ?_
        refine s_aload_n o dX14_choice_118 rfl 1 rfl ?_
        refine r_getf (vA (mg Γ)) rfl o cf_X13_kids (Or.inr (Or.inl ⟨_, q909⟩)) dX14_choice_119 (fun v16 hv16 => ?_)
        refine s_iload o dX14_choice_122 6 rfl ?_
        refine s_iconst o dX14_choice_124 ?_
        refine s_iadd o dX14_choice_125 ?_
        refine r_aald (kd := 6) o (by decide) rfl (w32_R _) dX14_choice_126 (fun v17 => ?_)
        refine s_aload_n o dX14_choice_127 rfl 2 rfl ?_
        refine s_cvC (d := d + 9) (As := [vA (mg Γ) v17, vA (mg Γ) v9]) (st := []) (c := 14) o (gr_rs_4 hr v7 v17 v9) mw_X14_part rfl (Or.inl (lw_all_tbl q1303)) rfl (lw_all_tbl qs38) (lw_all_tbl q1305) wt_0 rfl dX14_choice_128 rfl (rs := fun r => [vA (mg Γ) r]) (fun _ => rfl) (fun v18 hv18 => ?_)
        refine r_astore o dX14_choice_131 rfl ⟨(Nat.ne_of_beq_eq_false rfl), (fun _ => (vA_cat (mg Γ) v7)), ⟨(Nat.ne_of_beq_eq_false rfl), (fun _ => (vA_cat (mg Γ) v8)), ⟨(Nat.ne_of_beq_eq_false rfl), (fun _ => (vA_cat (mg Γ) v9)), ⟨(Nat.ne_of_beq_eq_false rfl), (fun _ => (vA_cat (mg Γ) v10)), ⟨(Nat.ne_of_beq_eq_false rfl), (fun _ => (vA_cat (mg Γ) v11)), ⟨(Nat.ne_of_beq_eq_false rfl), (fun _ => (vA_cat (mg Γ) v12)), ⟨(Nat.ne_of_beq_eq_false rfl), (fun _ => rfl), ⟨(Nat.ne_of_beq_eq_false rfl), (fun _ => rfl), ⟨(Nat.ne_of_beq_eq_false rfl), (fun _ => (vA_cat (mg Γ) v15)), trivial⟩⟩⟩⟩⟩⟩⟩⟩⟩ ?_
        refine s_aload_n o dX14_choice_133 rfl 1 rfl ?_
        refine s_iload o dX14_choice_134 8 rfl ?_
        refine r_putf vI rfl o cf_X14_seen (Or.inl (lw_all_tbl q1108)) dX14_choice_136 (Or.inl rfl) hv14 ty_int ?_
        refine s_aload o dX14_choice_139 0 rfl ?_
        refine s_ifnonnull (tgt := 146) o dX14_choice_141 (by decide) ?_ ?_
        · refine s_aload o dX14_choice_146 5 rfl ?_
          refine s_iload o dX14_choice_148 7 rfl ?_
          refine s_aload o dX14_choice_150 0 rfl ?_
          refine s_aast (kd := 5) o (by decide) (as_5 o) (Or.inl ⟨_, rfl⟩) hv13 dX14_choice_152 ?_
          refine r_iinc (j := 7) o dX14_choice_153 rfl rfl [(9, vA (mg Γ) v18), (0, vA (mg Γ) v7), (1, vA (mg Γ) v8), (2, vA (mg Γ) v9), (3, vA (mg Γ) v10), (4, vA (mg Γ) v11), (5, vA (mg Γ) v12), (7, vI v14), (8, vA (mg Γ) v15)] [0, 1, 2, 3, 4, 5, 6, 8, 9] rfl ⟨(Nat.ne_of_beq_eq_false rfl), (fun _ => (vA_cat (mg Γ) v18)), ⟨(Nat.ne_of_beq_eq_false rfl), (fun _ => (vA_cat (mg Γ) v7)), ⟨(Nat.ne_of_beq_eq_false rfl), (fun _ => (vA_cat (mg Γ) v8)), ⟨(Nat.ne_of_beq_eq_false rfl), (fun _ => (vA_cat (mg Γ) v9)), ⟨(Nat.ne_of_beq_eq_false rfl), (fun _ => (vA_cat (mg Γ) v10)), ⟨(Nat.ne_of_beq_eq_false rfl), (fun _ => (vA_cat (mg Γ) v11)), ⟨(Nat.ne_of_beq_eq_false rfl), (fun _ => (vA_cat (mg Γ) v12)), ⟨(Nat.ne_of_beq_eq_false rfl), (fun _ => rfl), ⟨(Nat.ne_of_beq_eq_false rfl), (fun _ => (vA_cat (mg Γ) v15)), trivial⟩⟩⟩⟩⟩⟩⟩⟩⟩ ?_
          refine s_goto (tgt := 33) o dX14_choice_156 (by decide) ?_
          refine r_to [(0, vA (mg Γ) v7), (1, vA (mg Γ) v8), (2, vA (mg Γ) v9), (3, vA (mg Γ) v10), (4, vA (mg Γ) v11), (5, vA (mg Γ) v12), (6, vI (w32 (v13 + 1)))] [2, 3, 4, 5, 6, 7, 0] rfl ?_
          exact s_back (⟨hv11, hv12, (w32_R _)⟩) rfl
        · refine r_to [] [] rfl ?_
          exact s_lo hk_144
noncomputable def b_X14_choice_33 (rc : Rc) {A : Type} (k_144 : Mo CH A) (k_159 : Int → Int → Int → Int → Mo CH A) (l0 : Int) (l1 : Int) (l2 : Int) (l3 : Int) (l4 : Int) (l5 : Int) (l6 : Int) : Mo CH A := Loop (fun x => b_X14_choice_33b rc k_144 k_159 x.1 x.2.1 x.2.2.1 x.2.2.2.1 x.2.2.2.2.1 x.2.2.2.2.2.1 x.2.2.2.2.2.2) (l0, l1, l2, l3, l4, l5, l6)
theorem sb_X14_choice_33 {Γ : Gm} {ts : TS} {d : Nat} {rc : Rc} (hr : GR_rs (mg Γ) ts (d + 9) rc) (o : Ok Γ "LazyForge$Resolver" cX14_choice 10 (Option.some (Jvm.ClassFile.FieldType.object "LazyForge$Part")) (d + 10)) {A : Type} {K : A → CH → Prop} (k_144 : Mo CH A) (k_159 : Int → Int → Int → Int → Mo CH A) (hk_144 : Sx Γ (fun h => (h, ts)) K 144 [] [] (k_144)) (hk_159 : ∀ (l1 : Int) (l3 : Int) (l4 : Int) (l5 : Int), 0 < l4 → 0 < l5 → Sx Γ (fun h => (h, ts)) K 159 [(1, vA (mg Γ) l1), (3, vA (mg Γ) l3), (4, vA (mg Γ) l4), (5, vA (mg Γ) l5)] [] (k_159 l1 l3 l4 l5)) (l0 : Int) (l1 : Int) (l2 : Int) (l3 : Int) (l4 : Int) (l5 : Int) (l6 : Int) (hl4 : 0 < l4) (hl5 : 0 < l5) (hl6 : R32 l6) : Sx Γ (fun h => (h, ts)) K 33 [(0, vA (mg Γ) l0), (1, vA (mg Γ) l1), (2, vA (mg Γ) l2), (3, vA (mg Γ) l3), (4, vA (mg Γ) l4), (5, vA (mg Γ) l5), (6, vI l6)] [] (b_X14_choice_33 rc k_144 k_159 l0 l1 l2 l3 l4 l5 l6) :=
  s_loop okb_X14_choice_33 (lvb_X14_choice_33 Γ) (fun x hx => sb_X14_choice_33b hr o k_144 k_159 hk_144 hk_159 x.1 x.2.1 x.2.2.1 x.2.2.2.1 x.2.2.2.2.1 x.2.2.2.2.2.1 x.2.2.2.2.2.2 hx.1 hx.2.1 hx.2.2) (x := (l0, l1, l2, l3, l4, l5, l6)) ⟨hl4, hl5, hl6⟩
noncomputable def b_X14_choice (rc : Rc) (l0 : Int) (l1 : Int) (l2 : Int) : Mo CH Int :=
  bnd (gf [113] 6 l1) fun v1 =>
  bnd (ald 6 v1 0) fun v2 =>
  bnd (isk 114 l0) fun _ =>
  bnd (rc 4 l0 v2 l2 0 0) fun v3 =>
  bnd (gf [113] 3 l1) fun v4 =>
  bnd (newa 5 v4) fun v5 =>
  bnd (gf [113] 3 l1) fun v6 =>
  bnd (newa 9 v6) fun v7 =>
  b_X14_choice_33 rc
    (pr 0)
    (fun v8 v9 v10 v11 => if ¬ v9 = 0 then
    bnd (newo 22) fun v12 =>
    bnd (gf [113] 7 v8) fun v13 =>
    bnd (gf [113] 8 v8) fun v14 =>
    bnd (c_X22_init v12 v9 v13 v14 v11 v10) fun _ =>
    pr v12
  else
    pr 0) l0 l1 l2 v3 v5 v7 0
theorem sb_X14_choice (g : gC) (d : Nat) (ts : TS) (rc : Rc) (hr : GR_rs g ts (d + 9) rc) (l0 : Int) (l1 : Int) (l2 : Int) : SF g yX14_choice (Cond.code yX14_choice cX14_choice 10 (Option.some (Jvm.ClassFile.FieldType.object "LazyForge$Part"))) (Option.some (Jvm.ClassFile.FieldType.object "LazyForge$Part")) (d + 10) [vA g l0, vA g l1, vA g l2] (fun h => (h, ts)) (b_X14_choice rc l0 l1 l2) := by
  refine SF.of (lv := [(0, vA g l0), (1, vA g l1), (2, vA g l2)]) (by decide) (wt_A (wt_A (wt_A wt_0))) rfl (by simp only [la_A, la_I, la_J, la_0]) (fun Γ hg hnm o => ?_)
  subst hg
  have o : Ok Γ "LazyForge$Resolver" cX14_choice 10 (Option.some (Jvm.ClassFile.FieldType.object "LazyForge$Part")) (d + 10) := o
  unfold b_X14_choice
  refine s_aload_n o dX14_choice_0 rfl 0 rfl ?_
  refine s_aload_n o dX14_choice_1 rfl 1 rfl ?_
  refine r_getf (vA (mg Γ)) rfl o cf_X13_kids (Or.inr (Or.inl ⟨_, q909⟩)) dX14_choice_2 (fun v1 hv1 => ?_)
  refine s_iconst o dX14_choice_5 ?_
  refine r_aald (kd := 6) o (by decide) rfl (r32 rfl) dX14_choice_6 (fun v2 => ?_)
  refine s_aload_n o dX14_choice_7 rfl 2 rfl ?_
  refine s_cvC (d := d + 9) (As := [vA (mg Γ) v2, vA (mg Γ) l2]) (st := []) (c := 14) o (gr_rs_4 hr l0 v2 l2) mw_X14_part rfl (Or.inl (lw_all_tbl q1303)) rfl (lw_all_tbl qs38) (lw_all_tbl q1305) wt_0 rfl dX14_choice_8 rfl (rs := fun r => [vA (mg Γ) r]) (fun _ => rfl) (fun v3 hv3 => ?_)
  refine r_astore_n o dX14_choice_11 rfl rfl ⟨(Nat.ne_of_beq_eq_false rfl), (fun _ => (vA_cat (mg Γ) l0)), ⟨(Nat.ne_of_beq_eq_false rfl), (fun _ => (vA_cat (mg Γ) l1)), ⟨(Nat.ne_of_beq_eq_false rfl), (fun _ => (vA_cat (mg Γ) l2)), trivial⟩⟩⟩ ?_
  refine s_aload_n o dX14_choice_12 rfl 2 rfl ?_
  refine r_getf vI rfl o cf_X13_number (Or.inr (Or.inl ⟨_, q903⟩)) dX14_choice_13 (fun v4 hv4 => ?_)
  refine s_anew (kd := 5) o (by decide) (Or.inl rfl) (lw_all_tbl q1321) ao_5 hv4 dX14_choice_16 (fun v5 hv5 => ?_)
  refine r_astore o dX14_choice_19 rfl ⟨(Nat.ne_of_beq_eq_false rfl), (fun _ => (vA_cat (mg Γ) v3)), ⟨(Nat.ne_of_beq_eq_false rfl), (fun _ => (vA_cat (mg Γ) l0)), ⟨(Nat.ne_of_beq_eq_false rfl), (fun _ => (vA_cat (mg Γ) l1)), ⟨(Nat.ne_of_beq_eq_false rfl), (fun _ => (vA_cat (mg Γ) l2)), trivial⟩⟩⟩⟩ ?_
  refine s_aload_n o dX14_choice_21 rfl 3 rfl ?_
  refine r_getf vI rfl o cf_X13_number (Or.inr (Or.inl ⟨_, q903⟩)) dX14_choice_22 (fun v6 hv6 => ?_)
  refine s_anew (kd := 9) o (by decide) (Or.inr ⟨_, rfl, by decide +kernel⟩) (lw_all_tbl q1484) ao_9 hv6 dX14_choice_25 (fun v7 hv7 => ?_)
  refine r_astore o dX14_choice_28 rfl ⟨(Nat.ne_of_beq_eq_false rfl), (fun _ => (vA_cat (mg Γ) v5)), ⟨(Nat.ne_of_beq_eq_false rfl), (fun _ => (vA_cat (mg Γ) v3)), ⟨(Nat.ne_of_beq_eq_false rfl), (fun _ => (vA_cat (mg Γ) l0)), ⟨(Nat.ne_of_beq_eq_false rfl), (fun _ => (vA_cat (mg Γ) l1)), ⟨(Nat.ne_of_beq_eq_false rfl), (fun _ => (vA_cat (mg Γ) l2)), trivial⟩⟩⟩⟩⟩ ?_
  refine s_iconst o dX14_choice_30 ?_
  refine r_istore o dX14_choice_31 rfl ⟨(Nat.ne_of_beq_eq_false rfl), (fun _ => (vA_cat (mg Γ) v7)), ⟨(Nat.ne_of_beq_eq_false rfl), (fun _ => (vA_cat (mg Γ) v5)), ⟨(Nat.ne_of_beq_eq_false rfl), (fun _ => (vA_cat (mg Γ) v3)), ⟨(Nat.ne_of_beq_eq_false rfl), (fun _ => (vA_cat (mg Γ) l0)), ⟨(Nat.ne_of_beq_eq_false rfl), (fun _ => (vA_cat (mg Γ) l1)), ⟨(Nat.ne_of_beq_eq_false rfl), (fun _ => (vA_cat (mg Γ) l2)), trivial⟩⟩⟩⟩⟩⟩ ?_
  refine r_to [(0, vA (mg Γ) l0), (1, vA (mg Γ) l1), (2, vA (mg Γ) l2), (3, vA (mg Γ) v3), (4, vA (mg Γ) v5), (5, vA (mg Γ) v7), (6, vI 0)] [4, 5, 6, 3, 2, 1, 0] rfl ?_
  refine sb_X14_choice_33 hr o _ _ ?_ ?_ l0 l1 l2 v3 v5 v7 0 hv5 hv7 (r32 rfl)
  · refine s_null o dX14_choice_144 ?_
    exact s_aret o rfl (Or.inl ⟨_, rfl⟩) dX14_choice_145 (fun _ hh => hh)
  · intro v8 v9 v10 v11 hv10 hv11
    refine s_aload_n o dX14_choice_159 rfl 1 rfl ?_
    refine s_ifnonnull (tgt := 167) o dX14_choice_160 (by decide) ?_ ?_
    · refine s_new o mk_22 (lw_all_tbl q1486) dX14_choice_167 (fun v12 hv12 => ?_)
      refine s_dup o dX14_choice_170 (vA_cat (mg Γ) v12) ?_
      refine s_aload_n o dX14_choice_171 rfl 1 rfl ?_
      refine s_aload_n o dX14_choice_172 rfl 0 rfl ?_
      refine r_getf (vA (mg Γ)) rfl o cf_X13_patterns (Or.inr (Or.inl ⟨_, q911⟩)) dX14_choice_173 (fun v13 hv13 => ?_)
      refine s_aload_n o dX14_choice_176 rfl 0 rfl ?_
      refine r_getf (vA (mg Γ)) rfl o cf_X13_numbers (Or.inr (Or.inl ⟨_, q913⟩)) dX14_choice_177 (fun v14 hv14 => ?_)
      refine s_aload o dX14_choice_180 3 rfl ?_
      refine s_aload o dX14_choice_182 2 rfl ?_
      refine s_ci (d := d + 9) (As := [vA (mg Γ) v9, vA (mg Γ) v13, vA (mg Γ) v14, vA (mg Γ) v11, vA (mg Γ) v10]) (st := [vA (mg Γ) v12]) o (sc_X22_init (mg Γ) (d + 7) ts v12 v9 v13 v14 v11 v10 hv12) mw_X22_init rfl (Or.inl (lw_all_tbl q1488)) (lw_all_tbl q1489) rfl hv12 (wt_A wt_0) rfl dX14_choice_184 rfl (fun _ => ?_)
      exact s_aret o rfl (Or.inl ⟨_, rfl⟩) dX14_choice_187 (fun _ hh => hh)
    · refine s_null o dX14_choice_163 ?_
      refine s_goto (tgt := 187) o dX14_choice_164 (by decide) ?_
      exact s_aret o rfl (Or.inl ⟨_, rfl⟩) dX14_choice_187 (fun _ hh => hh)
noncomputable def G_rs (rc : Rc) : Rc := fun j a0 a1 a2 a3 a4 => match j with
  | 0 => b_X14_choice rc a0 a1 a2
  | 1 => b_X14_enter rc a0 a1 a2 a3
  | 2 => b_X14_lambda rc a0 a1 a2
  | 3 => b_X14_let rc a0 a1 a2
  | 4 => b_X14_part rc a0 a1 a2
  | 5 => b_X14_parts rc a0 a1 a2 a3 a4
  | _ => no
noncomputable def R_rs : Nat → Rc
  | 0 => fun _ _ _ _ _ _ => no
  | n + 1 => G_rs (R_rs n)
theorem G_rs_ok (g : gC) (ts : TS) (d : Nat) (rc : Rc) (hr : GR_rs g ts (d + 9) rc) : GR_rs g ts (d + 10) (G_rs rc) := ⟨(fun l0 l1 l2 => sb_X14_choice g d ts rc hr l0 l1 l2), (fun l0 l1 l2 l3 => sb_X14_enter g d ts rc hr l0 l1 l2 l3), (fun l0 l1 l2 => sb_X14_lambda g d ts rc hr l0 l1 l2), (fun l0 l1 l2 => sb_X14_let g d ts rc hr l0 l1 l2), (fun l0 l1 l2 => sb_X14_part g d ts rc hr l0 l1 l2), (fun l0 l1 l2 l3 l4 hl2 hl3 => sb_X14_parts g d ts rc hr l0 l1 l2 l3 l4 hl2 hl3)⟩
theorem R_rs_ok (g : gC) (ts : TS) : ∀ n d, GR_rs g ts (d + 9 + n) (R_rs n)
  | 0, d => ⟨(fun _ _ _ _ _ _ e => by cases e), (fun _ _ _ _ _ _ _ e => by cases e), (fun _ _ _ _ _ _ e => by cases e), (fun _ _ _ _ _ _ e => by cases e), (fun _ _ _ _ _ _ e => by cases e), (fun _ _ _ _ _ _ _ _ _ _ e => by cases e)⟩
  | n + 1, d => by
    have h := R_rs_ok g ts n d
    rw [show d + 9 + n = (d + n) + 9 by omega] at h
    have h := G_rs_ok g ts _ _ h
    rw [show d + 9 + (n + 1) = (d + n) + 10 by omega]
    exact h
noncomputable def c_X14_choice (l0 : Int) (l1 : Int) (l2 : Int) : Mo CH Int := R_rs 600 0 l0 l1 l2 0 0
theorem sc_X14_choice (g : gC) (d : Nat) (ts : TS) (l0 : Int) (l1 : Int) (l2 : Int) : SF g yX14_choice (Cond.code yX14_choice cX14_choice 10 (Option.some (Jvm.ClassFile.FieldType.object "LazyForge$Part"))) (Option.some (Jvm.ClassFile.FieldType.object "LazyForge$Part")) (d + 609) [vA g l0, vA g l1, vA g l2] (fun h => (h, ts)) (c_X14_choice l0 l1 l2) := by
  have h := R_rs_ok g ts 600 d
  rw [Nat.add_assoc] at h
  exact gr_rs_0 h l0 l1 l2
noncomputable def c_X14_enter (l0 : Int) (l1 : Int) (l2 : Int) (l3 : Int) : Mo CH Int := R_rs 600 1 l0 l1 l2 l3 0
theorem sc_X14_enter (g : gC) (d : Nat) (ts : TS) (l0 : Int) (l1 : Int) (l2 : Int) (l3 : Int) : SF g yX14_enter (Cond.code yX14_enter cX14_enter 6 (Option.none : Option Jvm.ClassFile.FieldType)) (Option.none : Option Jvm.ClassFile.FieldType) (d + 609) [vA g l0, vA g l1, vA g l2, vA g l3] (fun h => (h, ts)) (c_X14_enter l0 l1 l2 l3) := by
  have h := R_rs_ok g ts 600 d
  rw [Nat.add_assoc] at h
  exact gr_rs_1 h l0 l1 l2 l3
noncomputable def c_X14_lambda (l0 : Int) (l1 : Int) (l2 : Int) : Mo CH Int := R_rs 600 2 l0 l1 l2 0 0
theorem sc_X14_lambda (g : gC) (d : Nat) (ts : TS) (l0 : Int) (l1 : Int) (l2 : Int) : SF g yX14_lambda (Cond.code yX14_lambda cX14_lambda 7 (Option.some (Jvm.ClassFile.FieldType.object "LazyForge$Part"))) (Option.some (Jvm.ClassFile.FieldType.object "LazyForge$Part")) (d + 609) [vA g l0, vA g l1, vA g l2] (fun h => (h, ts)) (c_X14_lambda l0 l1 l2) := by
  have h := R_rs_ok g ts 600 d
  rw [Nat.add_assoc] at h
  exact gr_rs_2 h l0 l1 l2
noncomputable def c_X14_let (l0 : Int) (l1 : Int) (l2 : Int) : Mo CH Int := R_rs 600 3 l0 l1 l2 0 0
theorem sc_X14_let (g : gC) (d : Nat) (ts : TS) (l0 : Int) (l1 : Int) (l2 : Int) : SF g yX14_let (Cond.code yX14_let cX14_let 8 (Option.some (Jvm.ClassFile.FieldType.object "LazyForge$Part"))) (Option.some (Jvm.ClassFile.FieldType.object "LazyForge$Part")) (d + 609) [vA g l0, vA g l1, vA g l2] (fun h => (h, ts)) (c_X14_let l0 l1 l2) := by
  have h := R_rs_ok g ts 600 d
  rw [Nat.add_assoc] at h
  exact gr_rs_3 h l0 l1 l2
noncomputable def c_X14_part (l0 : Int) (l1 : Int) (l2 : Int) : Mo CH Int := R_rs 600 4 l0 l1 l2 0 0
theorem sc_X14_part (g : gC) (d : Nat) (ts : TS) (l0 : Int) (l1 : Int) (l2 : Int) : SF g yX14_part (Cond.code yX14_part cX14_part 5 (Option.some (Jvm.ClassFile.FieldType.object "LazyForge$Part"))) (Option.some (Jvm.ClassFile.FieldType.object "LazyForge$Part")) (d + 609) [vA g l0, vA g l1, vA g l2] (fun h => (h, ts)) (c_X14_part l0 l1 l2) := by
  have h := R_rs_ok g ts 600 d
  rw [Nat.add_assoc] at h
  exact gr_rs_4 h l0 l1 l2
noncomputable def c_X14_parts (l0 : Int) (l1 : Int) (l2 : Int) (l3 : Int) (l4 : Int) : Mo CH Int := R_rs 600 5 l0 l1 l2 l3 l4
theorem sc_X14_parts (g : gC) (d : Nat) (ts : TS) (l0 : Int) (l1 : Int) (l2 : Int) (l3 : Int) (l4 : Int) (hl2 : R32 l2) (hl3 : R32 l3) : SF g yX14_parts (Cond.code yX14_parts cX14_parts 8 (Option.some (Jvm.ClassFile.FieldType.array (Jvm.ClassFile.FieldType.object "LazyForge$Part")))) (Option.some (Jvm.ClassFile.FieldType.array (Jvm.ClassFile.FieldType.object "LazyForge$Part"))) (d + 609) [vA g l0, vA g l1, vI l2, vI l3, vA g l4] (fun h => (h, ts)) (c_X14_parts l0 l1 l2 l3 l4) := by
  have h := R_rs_ok g ts 600 d
  rw [Nat.add_assoc] at h
  exact gr_rs_5 h l0 l1 l2 l3 l4 hl2 hl3
theorem dX12_wordOf_0 : decode cX12_wordOf 0 = .ok (.lconst 0, 1) := by decide +kernel
theorem dX12_wordOf_1 : decode cX12_wordOf 1 = .ok (.lstore_n 1, 1) := by decide +kernel
theorem dX12_wordOf_2 : decode cX12_wordOf 2 = .ok (.iconst 0, 1) := by decide +kernel
theorem dX12_wordOf_3 : decode cX12_wordOf 3 = .ok (.istore_n 3, 1) := by decide +kernel
theorem dX12_wordOf_4 : decode cX12_wordOf 4 = .ok (.iload_n 3, 1) := by decide +kernel
theorem dX12_wordOf_5 : decode cX12_wordOf 5 = .ok (.aload_n 0, 1) := by decide +kernel
theorem dX12_wordOf_6 : decode cX12_wordOf 6 = .ok (.invokevirtual 72, 3) := by decide +kernel
theorem dX12_wordOf_9 : decode cX12_wordOf 9 = .ok (.if_icmp .ge 21, 3) := by decide +kernel
theorem dX12_wordOf_12 : decode cX12_wordOf 12 = .ok (.lload_n 1, 1) := by decide +kernel
theorem dX12_wordOf_13 : decode cX12_wordOf 13 = .ok (.bipush 8, 2) := by decide +kernel
theorem dX12_wordOf_15 : decode cX12_wordOf 15 = .ok (.lshl, 1) := by decide +kernel
theorem dX12_wordOf_16 : decode cX12_wordOf 16 = .ok (.aload_n 0, 1) := by decide +kernel
theorem dX12_wordOf_17 : decode cX12_wordOf 17 = .ok (.iload_n 3, 1) := by decide +kernel
theorem dX12_wordOf_18 : decode cX12_wordOf 18 = .ok (.invokevirtual 78, 3) := by decide +kernel
theorem dX12_wordOf_21 : decode cX12_wordOf 21 = .ok (.i2l, 1) := by decide +kernel
theorem dX12_wordOf_22 : decode cX12_wordOf 22 = .ok (.lor, 1) := by decide +kernel
theorem dX12_wordOf_23 : decode cX12_wordOf 23 = .ok (.lstore_n 1, 1) := by decide +kernel
theorem dX12_wordOf_24 : decode cX12_wordOf 24 = .ok (.iinc 3 1, 3) := by decide +kernel
theorem dX12_wordOf_27 : decode cX12_wordOf 27 = .ok (.goto (-23), 3) := by decide +kernel
theorem dX12_wordOf_30 : decode cX12_wordOf 30 = .ok (.lload_n 1, 1) := by decide +kernel
theorem dX12_wordOf_31 : decode cX12_wordOf 31 = .ok (.lreturn, 1) := by decide +kernel
theorem mw_X12_wordOf : MW yX12_wordOf (Cond.code yX12_wordOf cX12_wordOf 4 (Option.some Jvm.ClassFile.FieldType.long)) cX12_wordOf 4 (Option.some Jvm.ClassFile.FieldType.long) 1 := ⟨rfl, ⟨(lw_all_tbl q599), rfl, (lw_all_tbl q180)⟩, rfl, ⟨by decide, by decide⟩, by decide +kernel⟩
abbrev okc_X12_wordOf_4 (x : Int × Int × Int) : Prop := R64 x.2.1 ∧ R32 x.2.2
abbrev lvc_X12_wordOf_4 (Γ : Gm) (x : Int × Int × Int) : List (Nat × Value) := [(0, vA (mg Γ) x.1), (1, vJ x.2.1), (3, vI x.2.2)]
noncomputable def c_X12_wordOf_4b {A : Type} (k_30 : Int → Mo CH A) (l0 : Int) (l1 : Int) (l3 : Int) : Mo CH ((Int × Int × Int) ⊕ A) :=
  bnd (iss l0) fun _ =>
  bnd (c_J5_length l0) fun v1 =>
  if v1 ≤ l3 then
    lo (k_30 l1)
  else
    bnd (iss l0) fun _ =>
    bnd (c_J5_charAt l0 l3) fun v2 =>
    pr (.inl (l0, (lor (lshl l1 8) v2), (w32 (l3 + 1))))
theorem sc_X12_wordOf_4b {Γ : Gm} {ts : TS} {d : Nat} (o : Ok Γ "LazyForge$Reader" cX12_wordOf 4 (Option.some Jvm.ClassFile.FieldType.long) (d + 4)) {A : Type} {K : A → CH → Prop} (k_30 : Int → Mo CH A) (hk_30 : ∀ (l1 : Int), R64 l1 → Sx Γ (fun h => (h, ts)) K 30 [(1, vJ l1)] [] (k_30 l1)) (l0 : Int) (l1 : Int) (l3 : Int) (hl1 : R64 l1) (hl3 : R32 l3) : Sx Γ (fun h => (h, ts)) (KL Γ (fun h => (h, ts)) okc_X12_wordOf_4 K 4 (lvc_X12_wordOf_4 Γ) []) 4 [(0, vA (mg Γ) l0), (1, vJ l1), (3, vI l3)] [] (c_X12_wordOf_4b k_30 l0 l1 l3) := by
  unfold c_X12_wordOf_4b
  refine s_iload_n o dX12_wordOf_4 rfl 2 rfl ?_
  refine s_aload_n o dX12_wordOf_5 rfl 0 rfl ?_
  refine s_cvS (d := d + 3) (As := []) (st := [vI l3]) o (sc_J5_length (mg Γ) (d + 2) ts l0) mw_J5_length rfl (Or.inl (lw_all_tbl q600)) (lw_all_tbl q602) (lw_all_tbl q601) (wt_I wt_0) rfl dX12_wordOf_6 rfl (rs := fun r => [vI r, vI l3]) (fun _ => rfl) (fun v1 hv1 => ?_)
  refine s_icmp_ge (tgt := 30) o dX12_wordOf_9 (by decide) hl3 (hv1 _ rfl) ?_ ?_
  · refine r_to [(1, vJ l1)] [1] rfl ?_
    exact s_lo (hk_30 l1 hl1)
  · refine s_lload_n o dX12_wordOf_12 rfl 1 rfl ?_
    refine s_bipush o dX12_wordOf_13 rfl ?_
    refine s_lshl o dX12_wordOf_15 ?_
    refine s_aload_n o dX12_wordOf_16 rfl 0 rfl ?_
    refine s_iload_n o dX12_wordOf_17 rfl 2 rfl ?_
    refine s_cvS (d := d + 3) (As := [vI l3]) (st := [vJ (lshl l1 8)]) o (sc_J5_charAt (mg Γ) d ts l0 l3 hl3) mw_J5_charAt rfl (Or.inl (lw_all_tbl q610)) (lw_all_tbl q612) (lw_all_tbl q611) (wt_J wt_0) rfl dX12_wordOf_18 rfl (rs := fun r => [vI r, vJ (lshl l1 8)]) (fun _ => rfl) (fun v2 hv2 => ?_)
    refine s_i2l o dX12_wordOf_21 (rC (hv2 _ rfl)) ?_
    refine s_lor o dX12_wordOf_22 ?_
    refine r_lstore_nP o dX12_wordOf_23 rfl rfl [(0, vA (mg Γ) l0), (3, vI l3)] [0, 2] rfl ⟨(Nat.ne_of_beq_eq_false rfl), (Nat.ne_of_beq_eq_false rfl), (fun _ => (vA_cat (mg Γ) l0)), ⟨(Nat.ne_of_beq_eq_false rfl), (Nat.ne_of_beq_eq_false rfl), (fun _ => rfl), trivial⟩⟩ ?_
    refine r_iinc (j := 2) o dX12_wordOf_24 rfl rfl [(1, vJ (lor (lshl l1 8) v2)), (0, vA (mg Γ) l0)] [0, 1] rfl ⟨(Nat.ne_of_beq_eq_false rfl), (fun e => absurd e (Nat.ne_of_beq_eq_false rfl)), ⟨(Nat.ne_of_beq_eq_false rfl), (fun _ => (vA_cat (mg Γ) l0)), trivial⟩⟩ ?_
    refine s_goto (tgt := 4) o dX12_wordOf_27 (by decide) ?_
    refine r_to [(0, vA (mg Γ) l0), (1, vJ (lor (lshl l1 8) v2)), (3, vI (w32 (l3 + 1)))] [2, 1, 0] rfl ?_
    exact s_back (⟨(lor_R _ _), (w32_R _)⟩) rfl
noncomputable def c_X12_wordOf_4 {A : Type} (k_30 : Int → Mo CH A) (l0 : Int) (l1 : Int) (l3 : Int) : Mo CH A := Loop (fun x => c_X12_wordOf_4b k_30 x.1 x.2.1 x.2.2) (l0, l1, l3)
theorem sc_X12_wordOf_4 {Γ : Gm} {ts : TS} {d : Nat} (o : Ok Γ "LazyForge$Reader" cX12_wordOf 4 (Option.some Jvm.ClassFile.FieldType.long) (d + 4)) {A : Type} {K : A → CH → Prop} (k_30 : Int → Mo CH A) (hk_30 : ∀ (l1 : Int), R64 l1 → Sx Γ (fun h => (h, ts)) K 30 [(1, vJ l1)] [] (k_30 l1)) (l0 : Int) (l1 : Int) (l3 : Int) (hl1 : R64 l1) (hl3 : R32 l3) : Sx Γ (fun h => (h, ts)) K 4 [(0, vA (mg Γ) l0), (1, vJ l1), (3, vI l3)] [] (c_X12_wordOf_4 k_30 l0 l1 l3) :=
  s_loop okc_X12_wordOf_4 (lvc_X12_wordOf_4 Γ) (fun x hx => sc_X12_wordOf_4b o k_30 hk_30 x.1 x.2.1 x.2.2 hx.1 hx.2) (x := (l0, l1, l3)) ⟨hl1, hl3⟩
noncomputable def c_X12_wordOf (l0 : Int) : Mo CH Int :=
  c_X12_wordOf_4
    (fun v1 => pr v1) l0 0 0
theorem sc_X12_wordOf (g : gC) (d : Nat) (ts : TS) (l0 : Int) : SF g yX12_wordOf (Cond.code yX12_wordOf cX12_wordOf 4 (Option.some Jvm.ClassFile.FieldType.long)) (Option.some Jvm.ClassFile.FieldType.long) (d + 4) [vA g l0] (fun h => (h, ts)) (c_X12_wordOf l0) := by
  refine SF.of (lv := [(0, vA g l0)]) (by decide) (wt_A wt_0) rfl (by simp only [la_A, la_I, la_J, la_0]) (fun Γ hg hnm o => ?_)
  subst hg
  have o : Ok Γ "LazyForge$Reader" cX12_wordOf 4 (Option.some Jvm.ClassFile.FieldType.long) (d + 4) := o
  unfold c_X12_wordOf
  refine s_lconst (x := 0) o dX12_wordOf_0 rfl ?_
  refine r_lstore_n o dX12_wordOf_1 rfl rfl ⟨(Nat.ne_of_beq_eq_false rfl), (Nat.ne_of_beq_eq_false rfl), (fun _ => (vA_cat (mg Γ) l0)), trivial⟩ ?_
  refine s_iconst o dX12_wordOf_2 ?_
  refine r_istore_n o dX12_wordOf_3 rfl rfl ⟨(Nat.ne_of_beq_eq_false rfl), (fun e => absurd e (Nat.ne_of_beq_eq_false rfl)), ⟨(Nat.ne_of_beq_eq_false rfl), (fun _ => (vA_cat (mg Γ) l0)), trivial⟩⟩ ?_
  refine r_to [(0, vA (mg Γ) l0), (1, vJ 0), (3, vI 0)] [2, 1, 0] rfl ?_
  refine sc_X12_wordOf_4 o _ ?_ l0 0 0 (r64 rfl) (r32 rfl)
  · intro v1 hv1
    refine s_lload_n o dX12_wordOf_30 rfl 0 rfl ?_
    exact s_lret o rfl hv1 dX12_wordOf_31 (fun _ hh => hh)
