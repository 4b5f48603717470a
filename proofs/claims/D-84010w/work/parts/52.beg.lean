/-! PRINTED: the beginning of the law -/
set_option maxRecDepth 100000
noncomputable def f_beg {A : Type} (mk : Int → Int → Int → Mo CH A) : Mo CH A :=
  bnd (newo 1) fun v1 =>
  bnd (c_X1_init v1) fun _ =>
  bnd (newo 11) fun v2 =>
  bnd (c_X11_init v2) fun _ =>
  bnd (newa 1 1) fun v3 =>
  mk v1 v2 v3
theorem sf_beg {Γ : Gm} {ts : TS} {d : Nat} (o : Ok Γ "LazyForgeLaw" cL_law 7 (Option.some Jvm.ClassFile.FieldType.boolean) (d + 614)) {A : Type} {K : A → CH → Prop} (mk : Int → Int → Int → Mo CH A) (kk : ∀ x m q, Sx Γ (fun h => (h, ts)) K 20 [(0, vA (mg Γ) (-250)), (1, vA (mg Γ) x), (2, vA (mg Γ) m), (3, vA (mg Γ) q)] [] (mk x m q)) : Sx Γ (fun h => (h, ts)) K 0 [(0, vA (mg Γ) (-250))] [] (f_beg mk) := by
  unfold f_beg
  refine s_new o mk_1 (lw_all_tbl q210) dL_law_0 (fun v1 hv1 => ?_)
  refine s_dup o dL_law_3 (vA_cat (mg Γ) v1) ?_
  refine s_ci (d := d + 613) (As := []) (st := [vA (mg Γ) v1]) o (sc_X1_init (mg Γ) (d + 608) ts v1 hv1) mw_X1_init rfl (Or.inl (lw_all_tbl q212)) (lw_all_tbl q213) rfl hv1 (wt_A wt_0) rfl dL_law_4 rfl (fun _ => ?_)
  refine r_astore_n o dL_law_7 rfl rfl ⟨(Nat.ne_of_beq_eq_false rfl), (fun _ => (vA_cat (mg Γ) (-250))), trivial⟩ ?_
  refine s_new o mk_11 (lw_all_tbl q2494) dL_law_8 (fun v2 hv2 => ?_)
  refine s_dup o dL_law_11 (vA_cat (mg Γ) v2) ?_
  refine s_ci (d := d + 613) (As := []) (st := [vA (mg Γ) v2]) o (sc_X11_init (mg Γ) (d + 612) ts v2 hv2) mw_X11_init rfl (Or.inl (lw_all_tbl q2496)) (lw_all_tbl q2497) rfl hv2 (wt_A wt_0) rfl dL_law_12 rfl (fun _ => ?_)
  refine r_astore_n o dL_law_15 rfl rfl ⟨(Nat.ne_of_beq_eq_false rfl), (fun _ => (vA_cat (mg Γ) v1)), ⟨(Nat.ne_of_beq_eq_false rfl), (fun _ => (vA_cat (mg Γ) (-250))), trivial⟩⟩ ?_
  refine s_iconst o dL_law_16 ?_
  refine s_newa (kd := 1) o (by decide) rfl (by decide) (o.ra (by decide)) (lw_all_tbl q438) (r32 rfl) dL_law_17 (fun v3 hv3 => ?_)
  refine r_astore_n o dL_law_19 rfl rfl ⟨(Nat.ne_of_beq_eq_false rfl), (fun _ => (vA_cat (mg Γ) v2)), ⟨(Nat.ne_of_beq_eq_false rfl), (fun _ => (vA_cat (mg Γ) v1)), ⟨(Nat.ne_of_beq_eq_false rfl), (fun _ => (vA_cat (mg Γ) (-250))), trivial⟩⟩⟩ ?_
  refine r_to [(0, vA (mg Γ) (-250)), (1, vA (mg Γ) v1), (2, vA (mg Γ) v2), (3, vA (mg Γ) v3)] [3, 2, 1, 0] rfl ?_
  exact kk v1 v2 v3
