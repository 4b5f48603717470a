/-! String.checkIndex: by hand (it hands on a static of which only is known that it is a reference or null) -/
set_option maxRecDepth 100000
theorem rf_cat (q : Option Nat) : (va_rf q).category = 1 := by cases q <;> rfl
theorem la_R {i : Nat} {q : Option Nat} {vs : List Value} : lv_args i (va_rf q :: vs) = (i, va_rf q) :: lv_args (i + 1) vs := by
  show (i, va_rf q) :: lv_args (if (va_rf q).category = 2 then i + 2 else i + 1) vs = _
  rw [rf_cat, if_neg (by decide)]
theorem wt_R {st : List Value} {n : Nat} {q : Option Nat} (h : wt st n) : wt (va_rf q :: st) (n + 1) := by
  unfold wt at h ⊢
  rw [List.map_cons, List.sum_cons]
  have := rf_cat q
  show (va_rf q).category + _ ≤ _
  omega
def ckx (i n : Int) : Mo CH Int := fun h => if 0 ≤ i ∧ i < n then some (i, h) else none
theorem sR_J7_checkIndex (g : gC) (d : Nat) (ts : TS) (l0 l1 : Int) (q : Option Nat) (hl0 : R32 l0) (hl1 : R32 l1) : SF g yJ7_checkIndex (Cond.code yJ7_checkIndex cJ7_checkIndex 3 (some .int)) (some .int) d [vI l0, vI l1, va_rf q] (fun h => (h, ts)) (ckx l0 l1) := by
  refine SF.of (lv := [(0, vI l0), (1, vI l1), (2, va_rf q)]) (by decide) (wt_I (wt_I (wt_R wt_0))) rfl (by simp only [la_R, la_I, la_0]) (fun Γ hg hnm o => ?_)
  subst hg
  have o : Ok Γ "jdk/internal/util/Preconditions" cJ7_checkIndex 3 (some .int) d := o
  have e : ckx l0 l1 = (if l0 < 0 then no else if l0 < l1 then pr l0 else no : Mo CH Int) := by
    funext h
    unfold ckx
    by_cases h0 : l0 < 0
    · rw [if_pos h0, if_neg (by omega)]
      rfl
    · rw [if_neg h0]
      by_cases h1 : l0 < l1
      · rw [if_pos h1, if_pos (by omega)]
        rfl
      · rw [if_neg h1, if_neg (by omega)]
        rfl
  rw [e]
  refine s_iload_n o dJ7_checkIndex_0 rfl 0 rfl ?_
  refine s_if_lt (tgt := 9) o dJ7_checkIndex_1 (by decide) hl0 ?_ ?_
  · exact s_no
  refine s_iload_n o dJ7_checkIndex_4 rfl 0 rfl ?_
  refine s_iload_n o dJ7_checkIndex_5 rfl 1 rfl ?_
  refine s_icmp_lt (tgt := 16) o dJ7_checkIndex_6 (by decide) hl0 hl1 ?_ ?_
  · refine s_iload_n o dJ7_checkIndex_16 rfl 0 rfl ?_
    exact s_iret o rfl i_int hl0 dJ7_checkIndex_17 (fun _ hh => hh)
  · exact s_no
theorem dJ5_checkIndex_0 : decode cJ5_checkIndex 0 = .ok (.iload_n 0, 1) := by decide +kernel
theorem dJ5_checkIndex_1 : decode cJ5_checkIndex 1 = .ok (.iload_n 1, 1) := by decide +kernel
theorem dJ5_checkIndex_2 : decode cJ5_checkIndex 2 = .ok (.getstatic 1053, 3) := by decide +kernel
theorem dJ5_checkIndex_5 : decode cJ5_checkIndex 5 = .ok (.invokestatic 1059, 3) := by decide +kernel
theorem dJ5_checkIndex_8 : decode cJ5_checkIndex 8 = .ok (.pop, 1) := by decide +kernel
theorem dJ5_checkIndex_9 : decode cJ5_checkIndex 9 = .ok (.return_, 1) := by decide +kernel
theorem mw_J5_checkIndex : MW yJ5_checkIndex (Cond.code yJ5_checkIndex cJ5_checkIndex 2 (Option.none : Option Jvm.ClassFile.FieldType)) cJ5_checkIndex 2 (Option.none : Option Jvm.ClassFile.FieldType) 2 := ⟨rfl, ⟨(lw_all_tbl q623), rfl, (lw_all_tbl q181)⟩, rfl, ⟨by decide, by decide⟩, by decide +kernel⟩
noncomputable def c_J5_checkIndex (l0 l1 : Int) : Mo CH Int := bnd (ckx l0 l1) fun _ => pr 0
theorem sc_J5_checkIndex (g : gC) (d : Nat) (ts : TS) (l0 l1 : Int) (hl0 : R32 l0) (hl1 : R32 l1) : SF g yJ5_checkIndex (Cond.code yJ5_checkIndex cJ5_checkIndex 2 (Option.none : Option Jvm.ClassFile.FieldType)) none (d + 1) [vI l0, vI l1] (fun h => (h, ts)) (c_J5_checkIndex l0 l1) := by
  refine SF.of (lv := [(0, vI l0), (1, vI l1)]) (by decide) (wt_I (wt_I wt_0)) rfl (by simp only [la_I, la_0]) (fun Γ hg hnm o => ?_)
  subst hg
  have o : Ok Γ "java/lang/String" cJ5_checkIndex 2 none (d + 1) := o
  unfold c_J5_checkIndex
  refine s_iload_n o dJ5_checkIndex_0 rfl 0 rfl ?_
  refine s_iload_n o dJ5_checkIndex_1 rfl 1 rfl ?_
  have hZ : ∃ q : Option Nat, va_Z "jdk/internal/util/Preconditions" "SIOOBE_FORMATTER" "Ljava/util/function/BiFunction;" (va_rf q) (AB (mg Γ)) (xS (mx Γ)) (gH (mg Γ)) := by
    rcases o.ks.2.2.2.2.1 with h | ⟨t, h⟩
    · exact ⟨none, h⟩
    · exact ⟨some t, h⟩
  obtain ⟨q, hZ⟩ := hZ
  intro s a s1 h hK
  refine e_gets o hZ (lw_all_tbl q624) dJ5_checkIndex_2 ?_
  revert s a s1
  show Sx Γ (fun h => (h, ts)) _ _ _ _ _
  refine s_cs (d := d) (As := [vI l0, vI l1, va_rf q]) (st := []) o (sR_J7_checkIndex (mg Γ) d ts l0 l1 q hl0 hl1) mw_J7_checkIndex rfl (Or.inl (lw_all_tbl q626)) (lw_all_tbl q627) wt_0 rfl dJ5_checkIndex_5 rfl (rs := fun r => [vI r]) (fun _ => rfl) (fun v1 hv1 => ?_)
  refine s_pop o dJ5_checkIndex_8 rfl ?_
  exact s_vret o rfl dJ5_checkIndex_9 (fun _ hh => hh)
/-! Object.equals -/
def oeq (x y : Int) : Mo CH Int := fun h => if 0 < x ∧ x ≤ hn h ∧ hk h x ∈ [116, 117] ∧ 0 ≤ y then some (if x = y then 1 else 0, h) else none
theorem dJ20_equals_0 : decode cJ20_equals 0 = .ok (.aload_n 0, 1) := by decide +kernel
theorem dJ20_equals_1 : decode cJ20_equals 1 = .ok (.aload_n 1, 1) := by decide +kernel
theorem dJ20_equals_2 : decode cJ20_equals 2 = .ok (.if_acmp .ne 7, 3) := by decide +kernel
theorem dJ20_equals_5 : decode cJ20_equals 5 = .ok (.iconst 1, 1) := by decide +kernel
theorem dJ20_equals_6 : decode cJ20_equals 6 = .ok (.goto 4, 3) := by decide +kernel
theorem dJ20_equals_9 : decode cJ20_equals 9 = .ok (.iconst 0, 1) := by decide +kernel
theorem dJ20_equals_10 : decode cJ20_equals 10 = .ok (.ireturn, 1) := by decide +kernel
theorem oeq_run {p : Program} {e : Env} {s target : State} {g : JFrame} {c : Code} {below : List Frame} (h : At s g.method c below) (hexec : p.tables.exec = Jvm.exec) {m : MethodId} {meth : Method} {code : Code} {a : Nat} {ry : Option Nat} (acts : List Action)
    (hm : s.vm.method? m = some meth) (hc : meth.code = some code) (hbytes : code.code = cJ20_equals) (hmax : code.maxLocals = 2) (hret : meth.sig.returnType = some .boolean) (hl : meth.locks = false) (hp : s.plainMethod m)
    (hroom : e.platform.stackFull (((s.setTop g).threads[(s.setTop g).cur]?).getD { frames := [] }) (s.setTop g).frames code.maxLocals = false)
    {ig : Instr} {len : Nat} (hdg : decode c.code g.pc = .ok (ig, len)) (hrest : Steps p.tables e below (s.setTop { g with pc := g.pc + len, stack := .int (if some a = ry then 1 else 0) :: g.stack }) target) :
    Steps p.tables e below (doInvoke e (s.setTop g) acts m #[.ref a, va_rf ry]).1 target := by
  rw [doInvoke_enter h.top acts hm hc hl hroom]
  have hA := h.enter (args := #[.ref a, va_rf ry]) hm hc hp
  have hf := frames_entered (g := g) h.top (.java (entryFrame m #[.ref a, va_rf ry] code.maxLocals))
  have hb := setFrames_entered (g := g) h.top (.java (entryFrame m #[.ref a, va_rf ry] code.maxLocals))
  have hm2 : ((s.setTop g).pushFrame (.java (entryFrame m #[.ref a, va_rf ry] code.maxLocals))).vm.method? m = some meth := hm
  have hcg : ((s.setTop g).pushFrame (.java (entryFrame m #[.ref a, va_rf ry] code.maxLocals))).code? g.method = some c := by
    have := h.code
    rw [State.code?_eq] at this ⊢
    simpa [State.pushFrame, State.setFrames] using this
  have he : entryFrame m #[.ref a, va_rf ry] code.maxLocals = { method := m, pc := 0, locals := #[.val (.ref a), .val (va_rf ry)], stack := [], locked := none } := by
    rw [hmax]
    cases ry <;> rfl
  rw [he] at hA hf hb hm2 hcg ⊢
  generalize (s.setTop g).pushFrame (.java { method := m, pc := 0, locals := #[.val (.ref a), .val (va_rf ry)], stack := [], locked := none }) = S1 at hA hf hb hm2 hcg ⊢
  have fin : ∀ v : Int32, narrow .boolean (.int v) = .int v → Steps p.tables e below (s.setTop { g with pc := g.pc + len, stack := .int v :: g.stack }) target → Steps p.tables e below (S1.setTop { method := m, pc := 10, locals := #[.val (.ref a), .val (va_rf ry)], stack := [.int v], locked := none }) target := by
    intro v hv hr
    jvm_step hA [hA.top, hexec, hbytes, dJ20_equals_10, hm2, hret, hv]
    first
      | (intro acts'
         rw [doReturn_leave (g := g) (meth := meth) (cg := c) (ig := ig) (len := len) acts' hf hm2 hl rfl rfl hcg hdg, hb, State.setTop_setTop]
         exact hr)
      | (rw [doReturn_leave (g := g) (meth := meth) (cg := c) (ig := ig) (len := len) _ hf hm2 hl rfl rfl hcg hdg, hb, State.setTop_setTop]
         exact hr)
  have st2 : Steps p.tables e below (S1.setTop { method := m, pc := 2, locals := #[.val (.ref a), .val (va_rf ry)], stack := [va_rf ry, .ref a], locked := none }) target := by
    by_cases hq : some a = ry
    · subst hq
      rw [if_pos rfl] at hrest
      jvm_step hA [hA.top, hexec, hbytes, dJ20_equals_2, va_rf, Value.asRef?, Op.if_acmp.holds]
      jvm_step hA [hA.top, hexec, hbytes, dJ20_equals_5]
      jvm_step hA [hA.top, hexec, hbytes, dJ20_equals_6]
      exact fin 1 (by decide +kernel) hrest
    · rw [if_neg hq] at hrest
      cases ry with
      | none =>
        jvm_step hA [hA.top, hexec, hbytes, dJ20_equals_2, va_rf, Value.asRef?, Op.if_acmp.holds]
        jvm_step hA [hA.top, hexec, hbytes, dJ20_equals_9]
        exact fin 0 (by decide +kernel) hrest
      | some y =>
        have hxy : ¬ a = y := fun q => hq (by rw [q])
        jvm_step hA [hA.top, hexec, hbytes, dJ20_equals_2, va_rf, Value.asRef?, Op.if_acmp.holds, hxy]
        jvm_step hA [hA.top, hexec, hbytes, dJ20_equals_9]
        exact fin 0 (by decide +kernel) hrest
  jvm_step hA [hA.top, hexec, hbytes, dJ20_equals_0, Value.isRef]
  cases ry with
  | none =>
    jvm_step hA [hA.top, hexec, hbytes, dJ20_equals_1, Value.isRef, va_rf]
    exact st2
  | some y =>
    jvm_step hA [hA.top, hexec, hbytes, dJ20_equals_1, Value.isRef, va_rf]
    exact st2
section
variable {A : Type} {Γ : Gm} {own : String} {cc : ByteArray} {nL : Nat} {ret : Option FieldType} {d : Nat} {pc : Nat} {lv : List (Nat × Value)} {st : List Value} {ts : TS} {x y : Int} {K : A → CH → Prop} {idx n : Nat}
theorem s_oeq (o : Ok Γ own cc nL ret (d + 1)) (hlk : Cond.methodLink own idx ⟨"java/lang/Object", "equals", "(Ljava/lang/Object;)Z"⟩ ∈ lw_tbl) (hwt : wt st n) (hn8 : Nat.ble n 8 = true) (hd : decode cc pc = .ok (.invokevirtual idx, 3)) {m : Int → Mo CH A}
    (kk : ∀ v, rg .boolean v → Sx Γ (fun h => (h, ts)) K (pc + 3) lv (vI v :: st) (m v)) : Sx Γ (fun h => (h, ts)) K pc lv (vA (mg Γ) y :: vA (mg Γ) x :: st) (bnd (oeq x y) m) := by
  intro h b h' e hK
  obtain ⟨r, e1, e2⟩ := bnd_some e
  unfold oeq at e1
  split at e1
  · rename_i q
    obtain ⟨x0, x1, xk, y0⟩ := q
    cases e1
    intro H locs ls cells slots hH hlo hv1 hc hs T hT X
    have k1 := kk (if x = y then 1 else 0) (by by_cases q : x = y <;> simp [q, rg]) h b h' e2 hK H locs ls cells slots hH hlo hv1 hc hs
    have hrc : ∃ C : String, RC Γ (h, ts) x C ∧ Cond.selects C ⟨"java/lang/Object", "equals", "(Ljava/lang/Object;)Z"⟩ ⟨"java/lang/Object", "equals", "(Ljava/lang/Object;)Z"⟩ ∈ lw_tbl := by
      rcases List.mem_cons.mp xk with e | e
      · exact ⟨_, rc_o o (c := 16) rfl x0 x1 e, lw_all_tbl q1408⟩
      · exact ⟨_, rc_o o (c := 17) rfl x0 x1 (List.mem_singleton.mp e), lw_all_tbl q1422⟩
    obtain ⟨C, ⟨ad, hx0, hrc⟩, hsel⟩ := hrc
    obtain ⟨cell, r1, r2, r3⟩ := hrc H hH
    rw [← hT] at r1
    have hin : Cond.instanceMethod ⟨"java/lang/Object", "equals", "(Ljava/lang/Object;)Z"⟩ ∈ lw_tbl := lw_all_tbl q1399
    have hcd : Cond.code ⟨"java/lang/Object", "equals", "(Ljava/lang/Object;)Z"⟩ cJ20_equals 2 (some .boolean) ∈ lw_tbl := lw_all_tbl q1437
    obtain ⟨r0, rr, hn, hrm, hstR, hsigR⟩ := va_Decl.of (o.w hin rfl) (o.w hcd rfl)
    have hsame := o.w (lw_all_tbl q1400) rfl
    obtain ⟨cn, ck, r1', hcn, hck, hni, hf, hn1⟩ := Cond.sameMethod_found hsame
    cases hn.symm.trans hn1
    obtain ⟨mk, methM, hnamed, hmethM, -, habM⟩ := Cond.instanceMethod_spec (o.w hin rfl)
    obtain ⟨c2, r2', m2, q1, q2, q3, q4, kP, hkP, hkPi⟩ := Cond.selects_spec (o.w hsel rfl)
    cases r3.symm.trans q1
    cases hf.symm.trans q2
    cases hnamed.symm.trans q3
    obtain ⟨methY, cY, hmY, hcY, hbY, hlY, hrY, hkY, -, -⟩ := Cond.code_spec hnamed (o.w hcd rfl)
    have hselP : selectMethod (xE (mx Γ)).platform (xS (mx Γ)).vm cell.cls r0 = .method mk := by rw [Launch.admits_selectMethod X.admits]; exact q4
    rw [hx0]
    have hRR := o.hR
    obtain ⟨vm₁, X₁, hstep₁⟩ := X.invokevirtualUp o.hx o.ho (o.w hlk rfl) hsame ⟨by decide, by decide⟩ hn hrm hstR (a := ad) (cell := cell) r1
      (fun z h => by rw [h] at r2; cases r2) hselP hmethM habM hkP hkPi (g := F0 (xM (mx Γ)) pc ls (vA (mg Γ) y :: .ref ad :: st)) rfl (argsL := [vA (mg Γ) y]) (rest := st) (by
        have h9 : parseMethodDescriptor "(Ljava/lang/Object;)Z" = some rr.sig := hsigR
        have h8 : (parseMethodDescriptor "(Ljava/lang/Object;)Z").map (fun d => d.parameters.length) = some 1 := by decide +kernel
        rw [h9] at h8
        exact (Option.some.inj h8).symm) rfl (by rw [o.hb]; exact hd)
    obtain ⟨t, a1, b1⟩ := k1 (T.setVm vm₁) hT X₁
    refine ⟨t, hstep₁ t (fun acts => ?_), b1⟩
    have hm1 : (T.setVm vm₁).vm.method? mk = some methY := by
      exact (X₁.warmed.alike.method? mk).trans hmY
    refine oeq_run (ry := rR (mg Γ) y) (g := F0 (xM (mx Γ)) pc ls st) X₁.here o.hx acts hm1 hcY hbY hlY hrY hkY (State.plainMethod.of_named (by decide +kernel) (X₁.named hnamed) hm1) ?_ (by rw [o.hb]; exact hd) ?_
    · rw [hlY]
      refine X₁.notFull (by rw [o.hm, ← o.hL]; exact hv1.1) (by rw [hRR]; show 1 ≤ d + 1; omega) ?_
      rw [hRR]
      have := lv_room (m := xM (mx Γ)) (pc := pc) (ls := ls) (rest := st) (Nat.le_trans hwt (Nat.le_of_ble_eq_true hn8))
      show 2 * (F0 (xM (mx Γ)) pc ls st).monitorRoom + (st.map fun v => v.category).sum + _ ≤ 46 * (d + 1) + 192
      omega
    · have e9 : (if some ad = rR (mg Γ) y then (1 : Int32) else 0) = Int32.ofInt (if x = y then 1 else 0) := by
        have hxx : rR (mg Γ) x = some ad := by
          have : va_rf (rR (mg Γ) x) = .ref ad := hx0
          cases hr : rR (mg Γ) x with
          | none => rw [hr] at this; cases this
          | some z => rw [hr] at this; cases this; rfl
        have := rR_inj o (x := x) (y := y) (Or.inl (by omega)) (Or.inl y0)
        rw [hxx] at this
        by_cases q : x = y
        · rw [if_pos (this.mpr q), if_pos q]; rfl
        · rw [if_neg (fun z => q (this.mp z)), if_neg q]; rfl
      rw [e9]
      exact a1
  · cases e1
end
theorem i_char : (∀ x, rg .char x → narrow .char (vI x) = vI x) ∧ ∀ g x, enc g .char x = vI x := by
  refine ⟨fun x h => ?_, fun _ _ => rfl⟩
  have e : vI x = Value.int (nI x.toNat) := by
    show Value.int (Int32.ofInt x) = Value.int (Int32.ofNat x.toNat)
    rw [show Int32.ofNat x.toNat = Int32.ofInt ((x.toNat : Nat) : Int) from rfl, Int.toNat_of_nonneg h.1]
  rw [e]
  exact (pk_charN (by have := h.2; have := h.1; omega)).1
theorem i_byte : (∀ x, rg .byte x → narrow .byte (vI x) = vI x) ∧ ∀ g x, enc g .byte x = vI x := by
  refine ⟨fun x h => ?_, fun _ _ => rfl⟩
  have e2 : (Int32.ofInt x).toInt8.toInt32 = Int32.ofInt x := by
    apply Int32.toInt_inj.mp
    have h1 := h.1
    have h2 := h.2
    rw [Int8.toInt_toInt32, Int32.toInt_toInt8, Int32.toInt_ofInt_of_le (by omega) (by omega)]
    rw [show (Int.bmod x (2 ^ 8)) = x by rw [Int.bmod_eq_of_le (by omega) (by omega)]]
  show narrow .byte (.int (Int32.ofInt x)) = .int (Int32.ofInt x)
  rw [← e2]
  exact pk_nb _
