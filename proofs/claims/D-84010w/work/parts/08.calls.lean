/-! ROWS 5: contracts and calls -/
set_option maxRecDepth 100000
def Pcx (g : gC) (args : List Value) (w : Wd) : Array Value → State → Prop := fun a U => a = args.toArray ∧ HR g w U.heap ∧ TK g U
def Qcx (g : gC) (ret : Option FieldType) (w : Wd) (tg : Tg) : Array Value → State → Outcome → State → Prop := fun _ st o t =>
  o = outc g ret tg ∧ (∀ ty, ret = some ty → tg.1 = 0 → rg ty tg.2.1) ∧ HR g tg.2.2 t.heap ∧ hn w.1 ≤ hn tg.2.2.1 ∧ hz w.1 ≤ hz tg.2.2.1 ∧
    ∃ L : List Loc, st.WarmedH t.vm ∧ st.sameButNew ({ t with vm := st.vm } : State) L (hn tg.2.2.1 - hn w.1) (hz tg.2.2.1 - hz w.1) ∧ ∀ q ∈ L, gB g < q.base
/-- the method y (its word hw), with d frames below it, from the world w with these arguments comes to the end tg -/
def Run (g : gC) (y : MethodName) (hw : Cond) (ret : Option FieldType) (d : Nat) (args : List Value) (w : Wd) (tg : Tg) : Prop :=
  MetFree (gL g) y (headSpec [hw] (rmd d (hn w.1) (hz w.1))) (Pcx g args w) (fun _ _ _ _ _ => True) (Qcx g ret w tg)
def SF {σ : Type} (g : gC) (y : MethodName) (hw : Cond) (ret : Option FieldType) (d : Nat) (args : List Value) (wld : σ → Wd) (F : Mo σ Int) : Prop :=
  ∀ s r s', F s = some (r, s') → Run g y hw ret d args (wld s) (0, r, wld s')
theorem MQx_Q {g : gC} {ret : Option FieldType} {s t : State} {below : List Frame} {w : Wd} {tg : Tg} {a : Array Value} (h : MQx g ret s below (hn w.1) (hz w.1) tg t) : t.status = .running ∧ Ended t below (outc g ret tg) ∧ Qcx g ret w tg a s (outc g ret tg) t := by
  obtain ⟨h1, h2, h3, h4, h5, h6, L, h7, h8, h9⟩ := h
  exact ⟨h1, h2, rfl, h3, h4, h5, h6, L, h7, h8, h9⟩
theorem lg_len (vs : List Value) : (lg_sl vs).length = (vs.map fun v => v.category).sum := by
  induction vs with
  | nil => rfl
  | cons v t ih =>
    have e : lg_sl (v :: t) = lg_sl [v] ++ lg_sl t := by simp [lg_sl]
    rw [e, List.length_append, ih, List.map_cons, List.sum_cons]
    congr 1
    rcases lv_cat v with q | q <;> simp [lg_sl, q]
/-- a contract out of its body -/
theorem Run.of {g : gC} {y : MethodName} {cc : ByteArray} {nL : Nat} {ret : Option FieldType} {d : Nat} {args : List Value} {w : Wd} {tg : Tg} {hw : Cond}
    (hy : plainFor y = true) (hcw : hw = Cond.code y cc nL ret ∨ ∃ hh, hw = Cond.codeWith y cc nL ret hh) (hnl : (lg_sl args).length ≤ nL)
    (body : ∀ Γ : Gm, mg Γ = g → mn Γ = hn w.1 → mz Γ = hz w.1 → mt Γ = tg → (xMe (mx Γ)).name = y.name → Ok Γ y.cls cc nL ret d → E Γ 0 (lv_args 0 args) [] w) : Run g y hw ret d args w tg := by
  refine MetFree.of_bodySF (code := cc) (maxLocals := nL) (ret := ret) hy ?_ ?_
  · intro a s m h hn
    have h0 := atoms_spec (ws := [hw]) h _ List.mem_cons_self
    rcases hcw with rfl | ⟨hh, rfl⟩
    · obtain ⟨meth, c, h1, h2, h3, h4, h5, h6, -, -⟩ := Cond.code_spec hn h0
      exact ⟨meth, c, h1, h2, h3, h4, h5, h6⟩
    · obtain ⟨m9, meth, c, hn9, h1, h2, h3, h4, -, h5, h6, -⟩ := Cond.codeWith_spec h0
      cases hn.symm.trans hn9
      exact ⟨meth, c, h1, h2, h3, h4, h5, h6⟩
  · intro p e s m a below meth c s₁ B hml hP _
    obtain ⟨rfl, hH, hT⟩ := hP
    have hh0 : s₁.heap = s.heap := by rw [B.state]; rfl
    have hl := lv_entry args (n := nL) hnl
    have hE := body (g, (p, e, rmd d (hn w.1) (hz w.1), s, m, args.toArray, below, meth, c), ret, hn w.1, hz w.1, nL, tg) rfl rfl rfl rfl (name_of_methodNamed B.named B.method).1 ⟨B.exec, B.bytes, hml, rfl, B.returns, rfl, B.notSynchronized, findClass_of_methodNamed B.named, hT, rfl⟩
      s.heap [] _ 0 0 hH (fun q hq => by cases hq) hl (Nat.add_zero _) (Nat.add_zero _)
    obtain ⟨t, a1, b1⟩ := hE s₁ hh0 (Stand.of_body B)
    obtain ⟨c1, c2, c3⟩ := MQx_Q (a := args.toArray) b1
    refine ⟨t, _, ?_, c1, c2, c3⟩
    rw [lg_entry_eq]
    exact a1
def PreX (g : gC) (R : Room) (args : List Value) (w : Wd) : Pt → Array Value → Prop := fun A a => a = args.toArray ∧ HR g w A.U.heap ∧ TK g A.U ∧ A.cells + (NM - hn w.1) ≤ R.cells ∧ A.slots + (ZM - hz w.1) ≤ R.slots
def PostX (g : gC) (rt : Option FieldType) (w : Wd) (r : Int) (w' : Wd) : Pt → Array Value → Option Value → Pt → Prop := fun A _ v B => v = rt.map (fun ty => enc g ty r) ∧ (∀ ty, rt = some ty → rg ty r) ∧ HR g w' B.U.heap ∧ hn w.1 ≤ hn w'.1 ∧ hz w.1 ≤ hz w'.1 ∧ B.cells = A.cells + (hn w'.1 - hn w.1) ∧ B.slots = A.slots + (hz w'.1 - hz w.1) ∧ ∃ L : List Loc, B.locs = A.locs ++ L ∧ ∀ q ∈ L, gB g < q.base
/-- the words of a called method -/
def cdw (hw : Cond) (y : MethodName) : Prop := hw ∈ lw_tbl ∧ kw hw = true ∧ Cond.initialized y.cls ∈ lw_tbl
theorem bk {g : gC} {y : MethodName} {cc : ByteArray} {nL : Nat} {rt : Option FieldType} {d : Nat} {as : List Value} {w w' : Wd} {r : Int} {hw : Cond} {p : Program} {e : Env} {below : List Frame} {s : State} {sargs : Array Value} {n0 z0 len : Nat}
    (hcw : hw = Cond.code y cc nL rt ∨ ∃ hh, hw = Cond.codeWith y cc nL rt hh) (hd : cdw hw y) (hnl : nL ≤ 20) (hM : Run g y hw rt d as w (0, r, w')) : Back (gL g) (rmd (d + 1) n0 z0) p e below s sargs y len 8 (PreX g (rmd (d + 1) n0 z0) as w) (PostX g rt w r w') := by
  have hQ : ∀ a first o t, Qcx g rt w (0, r, w') a first o t → ∃ L k n, FrameEnd first o t L k n ∧ (k = hn w'.1 - hn w.1 ∧ n = hz w'.1 - hz w.1 ∧ ∀ q ∈ L, gB g < q.base) := by
    intro a first o t h
    obtain ⟨h1, h2, h3, h4, h5, L, h6, h7, h8⟩ := h
    exact ⟨L, _, _, ⟨⟨_, h1⟩, h6, h7⟩, rfl, rfl, h8⟩
  have hP : ∀ (A : Pt) a (f : JFrame) mk, PreX g (rmd (d + 1) n0 z0) as w A a → Pcx g as w a (A.U.calling f mk a) := fun A a f mk h => ⟨h.1, h.2.1, h.2.2.1.calling f mk a⟩
  have hpost : ∀ (A : Pt) a (f : JFrame) mk v t L k n, Qcx g rt w (0, r, w') a (A.U.calling f mk a) (.returned v) t → (k = hn w'.1 - hn w.1 ∧ n = hz w'.1 - hz w.1 ∧ ∀ q ∈ L, gB g < q.base) → PostX g rt w r w' A a v ⟨(({ A.U with heap := t.heap, slotsUsed := t.slotsUsed } : State).setVm t.vm), A.locs ++ L, A.cells + k, A.slots + n⟩ := by
    intro A a f mk v t L k n h hE
    obtain ⟨h1, h2, h3, h4, h5, -⟩ := h
    obtain ⟨rfl, rfl, hL⟩ := hE
    have hv : v = rt.map (fun ty => enc g ty r) := by
      have : Outcome.returned v = Outcome.returned (rt.map fun ty => enc g ty r) := h1
      exact Outcome.returned.inj this
    exact ⟨hv, fun ty q => h2 ty q rfl, h3, h4, h5, rfl, rfl, L, rfl, hL⟩
  have hfr : (headSpec [hw] (rmd d (hn w.1) (hz w.1))).room.frames + 1 ≤ (rmd (d + 1) n0 z0).frames := Nat.le_refl _
  have hlo : 8 + (nL + 11) + (headSpec [hw] (rmd d (hn w.1) (hz w.1))).room.locals ≤ (rmd (d + 1) n0 z0).locals := by
    show 8 + (nL + 11) + (46 * d + 192) ≤ 46 * (d + 1) + 192
    omega
  rcases hcw with rfl | ⟨hh, rfl⟩
  · exact Back.of_free (bytes := cc) (maxL := nL) (ret := rt) (E := fun a first o t L k n => k = hn w'.1 - hn w.1 ∧ n = hz w'.1 - hz w.1 ∧ ∀ q ∈ L, gB g < q.base) hM hfr hlo
      (fun m meth c A a X hp => ⟨atoms_intro (fun c0 h0 => by rw [List.mem_singleton.mp h0]; exact hp.2.2.1.1.use hd.1 hd.2.1 _), hp.2.2.1.1.use hd.1 hd.2.1 _, hp.2.2.1.1.use hd.2.2 rfl _, hp.2.2.2.1, hp.2.2.2.2⟩)
      (fun m meth c A a f mk X hp => hP A a f mk hp) (fun _ _ _ _ _ _ _ _ _ => trivial) hQ (fun m meth c A a f mk v t L k n X hp hq hF hE => hpost A a f mk v t L k n hq hE)
  · exact va_ofFreeW (hh := hh) (bytes := cc) (maxL := nL) (ret := rt) (E := fun a first o t L k n => k = hn w'.1 - hn w.1 ∧ n = hz w'.1 - hz w.1 ∧ ∀ q ∈ L, gB g < q.base) hM hfr hlo
      (fun m meth c A a X hp => ⟨atoms_intro (fun c0 h0 => by rw [List.mem_singleton.mp h0]; exact hp.2.2.1.1.use hd.1 hd.2.1 _), hp.2.2.1.1.use hd.1 hd.2.1 _, hp.2.2.1.1.use hd.2.2 rfl _, hp.2.2.2.1, hp.2.2.2.2⟩)
      (fun m meth c A a f mk X hp => hP A a f mk hp) (fun _ _ _ _ _ _ _ _ _ => trivial) hQ (fun m meth c A a f mk v t L k n X hp hq hF hE => hpost A a f mk v t L k n hq hE)
/-- the weight of what stays on the stack -/
def wt (st : List Value) (n : Nat) : Prop := (st.map fun v => v.category).sum ≤ n
theorem wt_0 : wt [] 0 := Nat.le_refl 0
theorem wt_I {st : List Value} {n : Nat} {x : Int} (h : wt st n) : wt (vI x :: st) (n + 1) := by
  unfold wt at h ⊢
  rw [List.map_cons, List.sum_cons]
  show 1 + _ ≤ _
  omega
theorem wt_J {st : List Value} {n : Nat} {x : Int} (h : wt st n) : wt (vJ x :: st) (n + 2) := by
  unfold wt at h ⊢
  rw [List.map_cons, List.sum_cons]
  show 2 + _ ≤ _
  omega
theorem wt_A {st : List Value} {n : Nat} {g : gC} {x : Int} (h : wt st n) : wt (vA g x :: st) (n + 1) := by
  unfold wt at h ⊢
  rw [List.map_cons, List.sum_cons]
  have := vA_cat g x
  show (vA g x).category + _ ≤ _
  omega
section
variable {Γ : Gm} {own : String} {cc bytes : ByteArray} {nL maxL : Nat} {ret rt : Option FieldType} {d : Nat} {pc : Nat} {lv : List (Nat × Value)} {st As : List Value} {w w' : Wd} {y : MethodName} {hw : Cond} {idx : Nat} {r x : Int} {H : Heap} {locs : List Loc} {ls : Array Slot} {cells slots : Nat} {n : Nat}
theorem preX (o : Ok Γ own cc nL ret (d + 1)) (hH : HR (mg Γ) w H) (hc : mn Γ + cells = hn w.1) (hs : mz Γ + slots = hz w.1) {T : State} (hT : T.heap = H) {vm : Vm} (hW : (xS (mx Γ)).WarmedH vm) (as : List Value) : PreX (mg Γ) (rmd (d + 1) (mn Γ) (mz Γ)) as w ⟨T.setVm vm, locs, cells, slots⟩ as.toArray := by
  refine ⟨rfl, by show HR _ _ T.heap; rw [hT]; exact hH, o.ht.warm hW, ?_, ?_⟩
  · have := hH.2.2.1.1
    show cells + (NM - hn w.1) ≤ NM - mn Γ
    omega
  · have := hH.2.2.2.1
    show slots + (ZM - hz w.1) ≤ ZM - mz Γ
    omega
theorem finX (k : (∀ ty, rt = some ty → rg ty r) → E Γ (pc + 3) lv ((rt.map fun ty => enc (mg Γ) ty r).toList ++ st) w') (hc : mn Γ + cells = hn w.1) (hs : mz Γ + slots = hz w.1) (hlo : ∀ q ∈ locs, gB (mg Γ) < q.base) (hv : lv_has ls (mL Γ) lv) {T : State} {A : Pt} (hA : A.cells = cells ∧ A.slots = slots ∧ A.locs = locs) {a : Array Value}
    (h : ∃ (v : Option Value) (B : Pt), Stand (xP (mx Γ)) (gL (mg Γ)) (xE (mx Γ)) (xR (mx Γ)) (xS (mx Γ)) (xM (mx Γ)) (xA (mx Γ)) (xB (mx Γ)) (xMe (mx Γ)) (xC (mx Γ)) B.U B.locs B.cells B.slots ∧ PostX (mg Γ) rt w r w' A a v B ∧ ∀ target, Steps (xP (mx Γ)).tables (xE (mx Γ)) (xB (mx Γ)) (B.U.setTop (F0 (xM (mx Γ)) (pc + 3) ls (v.toList ++ st))) target → Steps (xP (mx Γ)).tables (xE (mx Γ)) (xB (mx Γ)) T target) :
    ∃ t, Steps (xP (mx Γ)).tables (xE (mx Γ)) (xB (mx Γ)) T t ∧ MQx (mg Γ) (mr Γ) (xS (mx Γ)) (xB (mx Γ)) (mn Γ) (mz Γ) (mt Γ) t := by
  obtain ⟨v, ⟨U, L0, c0, s0⟩, X, ⟨rfl, h2, h3, h4, h5, h6, h7, L, h8, h9⟩, st⟩ := h
  dsimp only [Pt.U, Pt.locs, Pt.cells, Pt.slots] at *
  obtain ⟨a1, a2, a3⟩ := hA
  obtain ⟨t, b1, b2⟩ := k h2 U.heap L0 ls c0 s0 h3 (by
    rw [h8, a3]
    intro q hq
    rcases List.mem_append.mp hq with hq | hq
    · exact hlo q hq
    · exact h9 q hq) hv (by omega) (by omega) U rfl X
  exact ⟨t, st t b1, b2⟩
theorem e_cs (o : Ok Γ own cc nL ret (d + 1)) (hcw : hw = Cond.code y bytes maxL rt) (hM : Run (mg Γ) y hw rt d As w (0, r, w')) (hdw : cdw hw y) (hmx : Nat.ble maxL 20 = true) (hlk : (Cond.methodLink own idx y ∈ lw_tbl ∨ ∃ host, Cond.methodLinkNest own idx y host ∈ lw_tbl)) (hst : Cond.static y ∈ lw_tbl)
    (hy : (y.cls ≠ "java/lang/invoke/MethodHandle" ∧ y.cls ≠ "java/lang/invoke/VarHandle") ∧ (parseMethodDescriptor y.desc).map (fun d => d.parameters.length) = some As.length) (hwt : wt st n) (hn8 : Nat.ble n 8 = true) (hd : decode cc pc = .ok (.invokestatic idx, 3))
    (k : (∀ ty, rt = some ty → rg ty r) → E Γ (pc + 3) lv ((rt.map fun ty => enc (mg Γ) ty r).toList ++ st) w') : E Γ pc lv (As.reverse ++ st) w := by
  intro H locs ls cells slots hH hlo hv hc hs T hT X
  have hlen : ∀ sig, parseMethodDescriptor y.desc = some sig → As.length = sig.parameters.length := fun sig h => by
    have h2 := hy.2
    rw [h] at h2
    exact (Option.some.inj h2).symm
  have hB := bk (p := xP (mx Γ)) (e := xE (mx Γ)) (below := xB (mx Γ)) (s := xS (mx Γ)) (sargs := xA (mx Γ)) (n0 := mn Γ) (z0 := mz Γ) (len := 3) (Or.inl hcw) hdw (Nat.le_of_ble_eq_true hmx) hM
  rw [← o.hR] at hB
  have hW8 : 2 * (F0 (xM (mx Γ)) pc ls (As.reverse ++ st)).monitorRoom + (st.map fun v => v.category).sum ≤ 8 := lv_room (Nat.le_trans hwt (Nat.le_of_ble_eq_true hn8))
  have hcode : (Cond.code y bytes maxL rt).before (xA (mx Γ)) (xS (mx Γ)) = true := by rw [← hcw]; exact o.w hdw.1 hdw.2.1
  have hsz : (F0 (xM (mx Γ)) pc ls (As.reverse ++ st)).locals.size = (xC (mx Γ)).maxLocals := by rw [o.hm, ← o.hL]; exact hv.1
  have hp : ∀ vm₁, (xS (mx Γ)).WarmedH vm₁ → PreX (mg Γ) (xR (mx Γ)) As w ⟨T.setVm vm₁, locs, cells, slots⟩ As.toArray := fun vm₁ hW₁ => by rw [o.hR]; exact preX o hH hc hs hT hW₁ As
  rcases hlk with hlk | ⟨host, hlk⟩
  · obtain ⟨v, vm₁, B, -, X', hpost, hst⟩ := callS X o.hx o.ho (o.w hlk rfl) (o.w hst rfl) (o.w hdw.2.2 rfl) hcode hy.1 hB (g := F0 (xM (mx Γ)) pc ls (As.reverse ++ st)) rfl hsz (argsL := As) (rest := st) hlen rfl hW8 (by rw [o.hb]; exact hd) hp
    exact finX k hc hs hlo hv (A := ⟨T.setVm vm₁, locs, cells, slots⟩) ⟨rfl, rfl, rfl⟩ ⟨v, B, X', hpost, hst⟩
  · obtain ⟨v, vm₁, B, -, X', hpost, hst⟩ := va_callSN X o.hx o.ho (o.w hlk rfl) (o.w hst rfl) (o.w hdw.2.2 rfl) hcode hy.1 hB (g := F0 (xM (mx Γ)) pc ls (As.reverse ++ st)) rfl hsz (argsL := As) (rest := st) hlen rfl hW8 (by rw [o.hb]; exact hd) hp
    exact finX k hc hs hlo hv (A := ⟨T.setVm vm₁, locs, cells, slots⟩) ⟨rfl, rfl, rfl⟩ ⟨v, B, X', hpost, hst⟩
/-- the receiver: an object of the class C -/
def RC (Γ : Gm) (w : Wd) (x : Int) (C : String) : Prop := ∃ ad : Nat, vA (mg Γ) x = .ref ad ∧ ∀ H : Heap, HR (mg Γ) w H → ∃ cell : Cell, H[ad]? = some cell ∧ cell.vm.isStatics = false ∧ (xS (mx Γ)).vm.findClass C = some cell.cls
theorem e_cv (o : Ok Γ own cc nL ret (d + 1)) {C : String} (hcw : hw = Cond.code y bytes maxL rt) (hM : Run (mg Γ) y hw rt d (vA (mg Γ) x :: As) w (0, r, w')) (hdw : cdw hw y) (hmx : Nat.ble maxL 20 = true) (hlk : (Cond.methodLink own idx y ∈ lw_tbl ∨ ∃ host, Cond.methodLinkNest own idx y host ∈ lw_tbl)) (hsel : Cond.selects C y y ∈ lw_tbl) (hin : Cond.instanceMethod y ∈ lw_tbl) (hrc : RC Γ w x C) 
    (hy : (y.cls ≠ "java/lang/invoke/MethodHandle" ∧ y.cls ≠ "java/lang/invoke/VarHandle") ∧ (parseMethodDescriptor y.desc).map (fun d => d.parameters.length) = some As.length) (hwt : wt st n) (hn8 : Nat.ble n 8 = true) (hd : decode cc pc = .ok (.invokevirtual idx, 3))
    (k : (∀ ty, rt = some ty → rg ty r) → E Γ (pc + 3) lv ((rt.map fun ty => enc (mg Γ) ty r).toList ++ st) w') : E Γ pc lv (As.reverse ++ vA (mg Γ) x :: st) w := by
  intro H locs ls cells slots hH hlo hv hc hs T hT X
  have hlen : ∀ sig, parseMethodDescriptor y.desc = some sig → As.length = sig.parameters.length := fun sig h => by
    have h2 := hy.2
    rw [h] at h2
    exact (Option.some.inj h2).symm
  obtain ⟨ad, hx0, hrc⟩ := hrc
  obtain ⟨cell, r1, r2, r3⟩ := hrc H hH
  rw [← hT] at r1
  have hB := bk (p := xP (mx Γ)) (e := xE (mx Γ)) (below := xB (mx Γ)) (s := xS (mx Γ)) (sargs := xA (mx Γ)) (n0 := mn Γ) (z0 := mz Γ) (len := 3) (Or.inl hcw) hdw (Nat.le_of_ble_eq_true hmx) hM
  have hcode : (Cond.code y bytes maxL rt).before (xA (mx Γ)) (xS (mx Γ)) = true := by rw [← hcw]; exact o.w hdw.1 hdw.2.1
  rw [← o.hR, hx0] at hB
  rw [hx0]
  have hW8 : 2 * (F0 (xM (mx Γ)) pc ls (As.reverse ++ .ref ad :: st)).monitorRoom + (st.map fun v => v.category).sum ≤ 8 := lv_room (Nat.le_trans hwt (Nat.le_of_ble_eq_true hn8))
  have hsz : (F0 (xM (mx Γ)) pc ls (As.reverse ++ .ref ad :: st)).locals.size = (xC (mx Γ)).maxLocals := by rw [o.hm, ← o.hL]; exact hv.1
  have hp : ∀ vm₁, (xS (mx Γ)).WarmedH vm₁ → PreX (mg Γ) (xR (mx Γ)) (.ref ad :: As) w ⟨T.setVm vm₁, locs, cells, slots⟩ (.ref ad :: As).toArray := fun vm₁ hW₁ => by rw [o.hR]; exact preX o hH hc hs hT hW₁ _
  rcases hlk with hlk | ⟨host, hlk⟩
  · obtain ⟨v, vm₁, B, -, X', hpost, hst⟩ := callV X o.hx o.ho (o.w hlk rfl) (o.w hin rfl) (o.w hsel rfl) hcode hy.1 hB r1 r2 r3 (g := F0 (xM (mx Γ)) pc ls (As.reverse ++ .ref ad :: st)) rfl hsz (argsL := As) (rest := st) hlen rfl hW8 (by rw [o.hb]; exact hd) hp
    exact finX k hc hs hlo hv (A := ⟨T.setVm vm₁, locs, cells, slots⟩) ⟨rfl, rfl, rfl⟩ ⟨v, B, X', hpost, hst⟩
  · obtain ⟨v, vm₁, B, -, X', hpost, hst⟩ := va_callVN X o.hx o.ho (o.w hlk rfl) (o.w hin rfl) (o.w hsel rfl) hcode hy.1 hB r1 r2 r3 (g := F0 (xM (mx Γ)) pc ls (As.reverse ++ .ref ad :: st)) rfl hsz (argsL := As) (rest := st) hlen rfl hW8 (by rw [o.hb]; exact hd) hp
    exact finX k hc hs hlo hv (A := ⟨T.setVm vm₁, locs, cells, slots⟩) ⟨rfl, rfl, rfl⟩ ⟨v, B, X', hpost, hst⟩
theorem e_ci (o : Ok Γ own cc nL ret (d + 1)) (hcw : hw = Cond.code y bytes maxL none) (hM : Run (mg Γ) y hw none d (vA (mg Γ) x :: As) w (0, r, w')) (hdw : cdw hw y) (hmx : Nat.ble maxL 20 = true) (hlk : (Cond.methodLink own idx y ∈ lw_tbl ∨ ∃ host, Cond.methodLinkNest own idx y host ∈ lw_tbl)) (hin : Cond.instanceMethod y ∈ lw_tbl) (hnm : y.name = "<init>") (hx0 : 0 < x) 
    (hy : (y.cls ≠ "java/lang/invoke/MethodHandle" ∧ y.cls ≠ "java/lang/invoke/VarHandle") ∧ (parseMethodDescriptor y.desc).map (fun d => d.parameters.length) = some As.length) (hwt : wt st n) (hn8 : Nat.ble n 8 = true) (hd : decode cc pc = .ok (.invokespecial idx, 3))
    (k : (∀ ty, (none : Option FieldType) = some ty → rg ty r) → E Γ (pc + 3) lv st w') : E Γ pc lv (As.reverse ++ vA (mg Γ) x :: st) w := by
  intro H locs ls cells slots hH hlo hv hc hs T hT X
  have hlen : ∀ sig, parseMethodDescriptor y.desc = some sig → As.length = sig.parameters.length := fun sig h => by
    have h2 := hy.2
    rw [h] at h2
    exact (Option.some.inj h2).symm
  subst hcw
  have hB := bk (p := xP (mx Γ)) (e := xE (mx Γ)) (below := xB (mx Γ)) (s := xS (mx Γ)) (sargs := xA (mx Γ)) (n0 := mn Γ) (z0 := mz Γ) (len := 3) (Or.inl rfl) hdw (Nat.le_of_ble_eq_true hmx) hM
  rw [← o.hR, vA_pos hx0] at hB
  rw [vA_pos hx0]
  have hW8 : 2 * (F0 (xM (mx Γ)) pc ls (As.reverse ++ .ref (gB (mg Γ) + x.toNat) :: st)).monitorRoom + (st.map fun v => v.category).sum ≤ 8 := lv_room (Nat.le_trans hwt (Nat.le_of_ble_eq_true hn8))
  have hsz : (F0 (xM (mx Γ)) pc ls (As.reverse ++ .ref (gB (mg Γ) + x.toNat) :: st)).locals.size = (xC (mx Γ)).maxLocals := by rw [o.hm, ← o.hL]; exact hv.1
  have hp : ∀ vm₁, (xS (mx Γ)).WarmedH vm₁ → PreX (mg Γ) (xR (mx Γ)) (.ref (gB (mg Γ) + x.toNat) :: As) w ⟨T.setVm vm₁, locs, cells, slots⟩ (.ref (gB (mg Γ) + x.toNat) :: As).toArray := fun vm₁ hW₁ => by rw [o.hR]; exact preX o hH hc hs hT hW₁ _
  rcases hlk with hlk | ⟨host, hlk⟩
  · obtain ⟨v, vm₁, B, -, X', hpost, hst⟩ := callI X o.hx o.ho hnm (o.w hlk rfl) (o.w hin rfl) (o.w hdw.1 hdw.2.1) hy.1 hB (g := F0 (xM (mx Γ)) pc ls (As.reverse ++ .ref (gB (mg Γ) + x.toNat) :: st)) rfl hsz (argsL := As) (rest := st) hlen rfl hW8 (by rw [o.hb]; exact hd) hp
    exact finX (rt := none) k hc hs hlo hv (A := ⟨T.setVm vm₁, locs, cells, slots⟩) ⟨rfl, rfl, rfl⟩ ⟨v, B, X', hpost, hst⟩
  · obtain ⟨v, vm₁, B, -, X', hpost, hst⟩ := va_callIN X o.hx o.ho hnm (o.w hlk rfl) (o.w hin rfl) (o.w hdw.1 hdw.2.1) hy.1 hB (g := F0 (xM (mx Γ)) pc ls (As.reverse ++ .ref (gB (mg Γ) + x.toNat) :: st)) rfl hsz (argsL := As) (rest := st) hlen rfl hW8 (by rw [o.hb]; exact hd) hp
    exact finX (rt := none) k hc hs hlo hv (A := ⟨T.setVm vm₁, locs, cells, slots⟩) ⟨rfl, rfl, rfl⟩ ⟨v, B, X', hpost, hst⟩
theorem e_cu (o : Ok Γ own cc nL ret (d + 1)) {C owner : String} {x0 : MethodName} (hcw : hw = Cond.code y bytes maxL rt) (hM : Run (mg Γ) y hw rt d (vA (mg Γ) x :: As) w (0, r, w')) (hdw : cdw hw y) (hmx : Nat.ble maxL 20 = true) (hlk : Cond.methodLink own idx x0 ∈ lw_tbl) (hsm : Cond.sameMethod x0.cls owner x0.name x0.desc ∈ lw_tbl) (hdc : va_Decl (xS (mx Γ)) ⟨owner, x0.name, x0.desc⟩) (hown : owner ≠ "java/lang/invoke/MethodHandle" ∧ owner ≠ "java/lang/invoke/VarHandle") (hsel : Cond.selects C x0 y ∈ lw_tbl) (hin : Cond.instanceMethod y ∈ lw_tbl) (hrc : RC Γ w x C) 
    (hy : True ∧ (parseMethodDescriptor x0.desc).map (fun d => d.parameters.length) = some As.length) (hwt : wt st n) (hn8 : Nat.ble n 8 = true) (hd : decode cc pc = .ok (.invokevirtual idx, 3))
    (k : (∀ ty, rt = some ty → rg ty r) → E Γ (pc + 3) lv ((rt.map fun ty => enc (mg Γ) ty r).toList ++ st) w') : E Γ pc lv (As.reverse ++ vA (mg Γ) x :: st) w := by
  intro H locs ls cells slots hH hlo hv hc hs T hT X
  have hlen : ∀ sig, parseMethodDescriptor x0.desc = some sig → As.length = sig.parameters.length := fun sig h => by
    have h2 := hy.2
    rw [h] at h2
    exact (Option.some.inj h2).symm
  obtain ⟨ad, hx0, hrc⟩ := hrc
  obtain ⟨cell, r1, r2, r3⟩ := hrc H hH
  rw [← hT] at r1
  have hB := bk (p := xP (mx Γ)) (e := xE (mx Γ)) (below := xB (mx Γ)) (s := xS (mx Γ)) (sargs := xA (mx Γ)) (n0 := mn Γ) (z0 := mz Γ) (len := 3) (Or.inl hcw) hdw (Nat.le_of_ble_eq_true hmx) hM
  have hcode : (Cond.code y bytes maxL rt).before (xA (mx Γ)) (xS (mx Γ)) = true := by rw [← hcw]; exact o.w hdw.1 hdw.2.1
  rw [← o.hR, hx0] at hB
  rw [hx0]
  have hW8 : 2 * (F0 (xM (mx Γ)) pc ls (As.reverse ++ .ref ad :: st)).monitorRoom + (st.map fun v => v.category).sum ≤ 8 := lv_room (Nat.le_trans hwt (Nat.le_of_ble_eq_true hn8))
  have hsz : (F0 (xM (mx Γ)) pc ls (As.reverse ++ .ref ad :: st)).locals.size = (xC (mx Γ)).maxLocals := by rw [o.hm, ← o.hL]; exact hv.1
  have hp : ∀ vm₁, (xS (mx Γ)).WarmedH vm₁ → PreX (mg Γ) (xR (mx Γ)) (.ref ad :: As) w ⟨T.setVm vm₁, locs, cells, slots⟩ (.ref ad :: As).toArray := fun vm₁ hW₁ => by rw [o.hR]; exact preX o hH hc hs hT hW₁ _
  · obtain ⟨v, vm₁, B, -, X', hpost, hst⟩ := va_callVU X o.hx o.ho (o.w hlk rfl) (o.w hsm rfl) hdc hown (o.w hsel rfl) (o.w hin rfl) hcode hB r1 r2 r3 (g := F0 (xM (mx Γ)) pc ls (As.reverse ++ .ref ad :: st)) rfl hsz (argsL := As) (rest := st) hlen rfl hW8 (by rw [o.hb]; exact hd) hp
    exact finX k hc hs hlo hv (A := ⟨T.setVm vm₁, locs, cells, slots⟩) ⟨rfl, rfl, rfl⟩ ⟨v, B, X', hpost, hst⟩
end
