/-! ROWS 17: handlers; static calls of methods with handlers -/
set_option maxRecDepth 100000
/-! the search for a handler where the rows' classes may still have to be resolved -/
section
variable {e : Env} {f : JFrame} {a : Addr} {cell : Cell} {s0 : State}
/-- one row that covers the place: it catches or it is passed -/
theorem go_row {Qh : Handler → Pre} {Ec : CtlPost} {db : Bool} {acts : List Action} {s : State} {x : ExceptionTableEntry} {t : List ExceptionTableEntry} {c : ClassId} (b : Bool) (hx : covers x f.pc = true) (h0 : x.catchType ≠ 0)
    (hl : s.vm.ClassLinks e.platform f.method.cls x.catchType c) (hcell : s.heap[a]? = some cell) (hobj : ∀ k, cell.vm ≠ .statics k)
    (hk : ∃ k, s.vm.classes[cell.cls]? = some k) (hc : ∃ k, s.vm.classes[c]? = some k) (hfit : s.vm.assignable cell.cls c = b) :
    wp (findHandler.go f a (x :: t)) Qh Ec e db acts s ↔ (if b = true then Qh (.found x.handlerPc) db acts (s.setVm (s.vm.noted f.method.cls x.catchType (.cls c))) else wp (findHandler.go f a t) Qh Ec e db acts (s.setVm (s.vm.noted f.method.cls x.catchType (.cls c)))) := by
  simp only [covers] at hx
  obtain ⟨ha, ht⟩ := (resolveClass_links e.toSetting hl).op (op := VmOp.resolveClass f.method.cls x.catchType) rfl
  have hal : s.vm.Alike (s.vm.noted f.method.cls x.catchType (.cls c)) := (Vm.Alike.refl s.vm).noted _ _ _
  obtain ⟨k1, hk1⟩ := hk
  obtain ⟨k2, hk2⟩ := hc
  obtain ⟨k1', hk1', -⟩ := hal.2.2 _ _ hk1
  obtain ⟨k2', hk2', -⟩ := hal.2.2 _ _ hk2
  have hf : (s.vm.noted f.method.cls x.catchType (.cls c)).assignable cell.cls c = b := (hal.assignable _ _).trans hfit
  cases b with
  | true => simp [findHandler.go, hx, h0, ha, ht, hcell, hobj, hk1', hk2', hf, VmOp.dirties, VmOp.acts]
  | false => simp [findHandler.go, hx, h0, ha, ht, hcell, hobj, hk1', hk2', hf, VmOp.dirties, VmOp.acts]
/-- what a row's class says of the exception: b = it takes it -/
def rowSays (pl : Platform) (s0 : State) (d thrown : ClassId) (b : Bool) (y : ExceptionTableEntry) : Prop := y.catchType ≠ 0 ∧ ∃ c, s0.vm.ClassLinks pl d y.catchType c ∧ s0.vm.assignable thrown c = b
theorem row_noted {s : State} {d thrown : ClassId} {b : Bool} {y : ExceptionTableEntry} (hW : s0.WarmedH s.vm) (h : rowSays e.platform s0 d thrown b y) (hk0 : ∃ k, s0.vm.classes[thrown]? = some k) : ∃ c, y.catchType ≠ 0 ∧ s.vm.ClassLinks e.platform d y.catchType c ∧ (∃ k, s.vm.classes[thrown]? = some k) ∧ (∃ k, s.vm.classes[c]? = some k) ∧ s.vm.assignable thrown c = b ∧ s0.WarmedH (s.vm.noted d y.catchType (.cls c)) := by
  obtain ⟨h0, c, hl, hb⟩ := h
  obtain ⟨k0, hk0⟩ := hk0
  obtain ⟨k0', hk0', -⟩ := hW.alike.2.2 _ _ hk0
  obtain ⟨dk, _, _, kt, hd, _, _, _, _, hkt, _, hopen⟩ := hl.here
  obtain ⟨kt', hkt', -⟩ := hW.alike.2.2 _ _ hkt
  exact ⟨c, h0, hW.classLinks hl, ⟨k0', hk0'⟩, ⟨kt', hkt'⟩, (hW.alike.assignable _ _).trans hb, hW.noted hd hopen (State.rightAt_cls hl)⟩
theorem go_rows (hobj : ∀ k, cell.vm ≠ .statics k) (hk0 : ∃ k, s0.vm.classes[cell.cls]? = some k) (x : ExceptionTableEntry) (rest : List ExceptionTableEntry) (hx : covers x f.pc = true) (hend : rowSays e.platform s0 f.method.cls cell.cls true x) :
    ∀ (pre : List ExceptionTableEntry) (S : State), s0.WarmedH S.vm → S.heap[a]? = some cell → (∀ y ∈ pre, covers y f.pc = false ∨ rowSays e.platform s0 f.method.cls cell.cls false y) →
      ∃ vm', s0.WarmedH vm' ∧ ∀ (Qh : Handler → Pre) (Ec : CtlPost) (db : Bool) (acts : List Action), wp (findHandler.go f a (pre ++ x :: rest)) Qh Ec e db acts S ↔ Qh (.found x.handlerPc) db acts (S.setVm vm')
  | [], S, hW, hcell, _ => by
    obtain ⟨c, g1, g2, g3, g4, g5, g6⟩ := row_noted hW hend hk0
    refine ⟨_, g6, fun Qh Ec db acts => ?_⟩
    have h := go_row (e := e) (Qh := Qh) (Ec := Ec) (db := db) (acts := acts) (t := rest) true hx g1 g2 hcell hobj g3 g4 g5
    rw [if_pos rfl] at h
    exact h
  | y :: ys, S, hW, hcell, hp => by
    have hys : ∀ z ∈ ys, covers z f.pc = false ∨ rowSays e.platform s0 f.method.cls cell.cls false z := fun z hz => hp z (List.mem_cons_of_mem _ hz)
    by_cases hcov : covers y f.pc = true
    · rcases hp y (List.mem_cons_self ..) with h | h
      · rw [h] at hcov; cases hcov
      · obtain ⟨c, g1, g2, g3, g4, g5, g6⟩ := row_noted hW h hk0
        obtain ⟨vm', hW', hq⟩ := go_rows hobj hk0 x rest hx hend ys (S.setVm (S.vm.noted f.method.cls y.catchType (.cls c))) g6 hcell hys
        refine ⟨vm', hW', fun Qh Ec db acts => ?_⟩
        have h := go_row (e := e) (Qh := Qh) (Ec := Ec) (db := db) (acts := acts) (t := ys ++ x :: rest) false hcov g1 g2 hcell hobj g3 g4 g5
        rw [if_neg (by decide)] at h
        exact h.trans (hq Qh Ec db acts)
    · obtain ⟨vm', hW', hq⟩ := go_rows hobj hk0 x rest hx hend ys S hW hcell hys
      refine ⟨vm', hW', fun Qh Ec db acts => ?_⟩
      rw [List.cons_append, W.findHandler_go_skip (by simpa using hcov)]
      exact hq Qh Ec db acts
end
section
variable {p : Program} {l : Launch} {e : Env} {R : Room} {s : State} {m₀ : MethodId} {args : Array Value} {below : List Frame} {meth : Method} {c : Code} {T : State} {locs : List Loc} {cells slots : Nat}
theorem caught_row (X : Stand p l e R s m₀ args below meth c T locs cells slots) (a : Addr) {g : JFrame} (hg : g.method = m₀) {cell : Cell} (hcell : T.heap[a]? = some cell) (hobj : cell.vm.isStatics = false) (hk0 : ∃ k, s.vm.classes[cell.cls]? = some k)
    (pre : List ExceptionTableEntry) (x : ExceptionTableEntry) (rest : List ExceptionTableEntry) (hsplit : c.exceptionTable.toList = pre ++ x :: rest) (hp : ∀ y ∈ pre, covers y g.pc = false ∨ rowSays e.platform s m₀.cls cell.cls false y) (hx : covers x g.pc = true) (hend : rowSays e.platform s m₀.cls cell.cls true x) :
    ∃ vm', Stand p l e R s m₀ args below meth c (T.setVm vm') locs cells slots ∧ ∀ target, Steps p.tables e below ((T.setVm vm').setTop { g with pc := x.handlerPc, stack := [.ref a] }) target → Steps p.tables e below ((T.setTop g).pushFrame (.throwing a)) target := by
  subst hg
  obtain ⟨vm', hW', hq⟩ := go_rows (e := e) (f := g) (a := a) (VmData.ne_statics_of hobj) hk0 x rest hx hend pre ((T.setTop g).pushFrame (.throwing a)) X.warmed hcell hp
  refine ⟨vm', X.noted hW', fun target hrest => ?_⟩
  obtain ⟨hgo, hw⟩ := X.here.throwing a
  refine Steps.head hgo hw ?_
  have hfind : ∀ (Qh : Handler → Pre) (Ec : CtlPost) (db : Bool) (acts : List Action), wp (findHandler g a) Qh Ec e db acts ((T.setTop g).pushFrame (.throwing a)) ↔ Qh (.found x.handlerPc) db acts (((T.setTop g).pushFrame (.throwing a)).setVm vm') := by
    intro Qh Ec db acts
    have hm : ((T.setTop g).pushFrame (.throwing a)).vm.method? g.method = some meth := X.method'
    rw [W.findHandler_eq hm X.code, hsplit]
    exact hq Qh Ec db acts
  have hst : (stepThrowing e ((T.setTop g).pushFrame (.throwing a)) a (.java g :: T.frames.tail)).1 = (((T.setTop g).pushFrame (.throwing a)).setVm vm').setFrames (.java { g with pc := x.handlerPc, stack := [.ref a] } :: T.frames.tail) := by
    simp only [stepThrowing, searchFrame, vmDo]
    generalize hr : Sem.go _ e false [] ((T.setTop g).pushFrame (.throwing a)) = res
    obtain ⟨as, rfl, ha⟩ := Sem.eq_ok_of hr (a := Handler.found x.handlerPc) (s' := ((T.setTop g).pushFrame (.throwing a)).setVm vm') (acts' := []) (by simp [hfind _ _ _ _])
    rfl
  rw [stepThread_throwing (frames_entered X.here.top _), hst]
  obtain ⟨g₀, hgg⟩ := Option.isSome_iff_exists.mp X.here.top
  obtain ⟨r, hr⟩ := State.topJava?_eq_some.mp hgg
  have hr' : (T.setVm vm').frames = .java g₀ :: r := hr
  rw [State.setTop_of_frames _ hr'] at hrest
  have e1 : (((T.setTop g).pushFrame (.throwing a)).setVm vm').setFrames (.java { g with pc := x.handlerPc, stack := [.ref a] } :: T.frames.tail) = (T.setVm vm').setFrames (.java { g with pc := x.handlerPc, stack := [.ref a] } :: r) := by
    rw [hr, List.tail_cons, State.pushFrame, State.setTop_of_frames _ hr]
    show ((((T.setVm vm').setFrames _).setFrames _)).setFrames _ = _
    rw [State.setFrames_setFrames, State.setFrames_setFrames]
  rw [e1]
  exact hrest
end
def bndH {A : Type} (F : Mo CH (Nat × Int)) (mk : Int → Mo CH A) (hd : Int → Mo CH A) : Mo CH A := fun h => match F h with
  | none => none
  | some (r, h') => if r.1 = 0 then mk r.2 h' else if r.1 = 1 then hd r.2 h' else none
/-- by the exception's class -/
def hdl {A : Type} (x : Int) : List (Nat × Mo CH A) → Mo CH A
  | [] => no
  | (c, m) :: L => fun h => if 0 < x ∧ x ≤ hn h ∧ hk h x = 200 + c then m h else hdl x L h
/-- the rows ahead are passed -/
def psL (own : String) (pc : Nat) (C : String) : List ExceptionTableEntry → Prop
  | [] => True
  | y :: l => (covers y pc = false ∨ (y.catchType ≠ 0 ∧ ∃ D, Cond.classLink own y.catchType D ∈ lw_tbl ∧ (C, D) ∈ ncs)) ∧ psL own pc C l
theorem psL_at {own : String} {pc : Nat} {C : String} : ∀ {l : List ExceptionTableEntry}, psL own pc C l → ∀ y ∈ l, covers y pc = false ∨ (y.catchType ≠ 0 ∧ ∃ D, Cond.classLink own y.catchType D ∈ lw_tbl ∧ (C, D) ∈ ncs)
  | [], _, y, hy => by cases hy
  | z :: l, h, y, hy => by
    rcases List.mem_cons.mp hy with e | e
    · subst e; exact h.1
    · exact psL_at h.2 y e
/-- the row of the table that catches an exception of the class c -/
def CRw (own : String) (tbl : List ExceptionTableEntry) (pc c hpc : Nat) : Prop := (28 ≤ c ∧ c ≤ 31) ∧ ∃ (pre : List ExceptionTableEntry) (x : ExceptionTableEntry) (rest : List ExceptionTableEntry) (r0 : vw_C), tbl = pre ++ x :: rest ∧ x.handlerPc = hpc ∧ covers x pc = true ∧ x.catchType ≠ 0 ∧ wcl[c]? = some r0 ∧ Cond.classLink own x.catchType r0.1 ∈ lw_tbl ∧ psL own pc r0.1 pre
def HLs {A : Type} (Γ : Gm) (own : String) (tbl : List ExceptionTableEntry) (pc : Nat) (lv : List (Nat × Value)) (ts : TS) (K : A → CH → Prop) (r : Int) : List (Nat × Mo CH A) → Prop
  | [] => True
  | (c, m) :: L => (∃ hpc, CRw own tbl pc c hpc ∧ Sx Γ (fun h => (h, ts)) K hpc lv [vA (mg Γ) r] m) ∧ HLs Γ own tbl pc lv ts K r L
theorem hdl_some {A : Type} {Γ : Gm} {own : String} {tbl : List ExceptionTableEntry} {pc : Nat} {lv : List (Nat × Value)} {ts : TS} {K : A → CH → Prop} {r : Int} : ∀ {L : List (Nat × Mo CH A)}, HLs Γ own tbl pc lv ts K r L → ∀ {h : CH} {q : A × CH}, hdl r L h = some q → ∃ c m hpc, 0 < r ∧ r ≤ hn h ∧ hk h r = 200 + c ∧ m h = some q ∧ CRw own tbl pc c hpc ∧ Sx Γ (fun h => (h, ts)) K hpc lv [vA (mg Γ) r] m
  | [], _, h, q, e => by cases e
  | (c, m) :: L, hL, h, q, e => by
    have e : (if 0 < r ∧ r ≤ hn h ∧ hk h r = 200 + c then m h else hdl r L h) = some q := e
    by_cases z : 0 < r ∧ r ≤ hn h ∧ hk h r = 200 + c
    · rw [if_pos z] at e
      obtain ⟨⟨hpc, h1, h2⟩, -⟩ := hL
      exact ⟨c, m, hpc, z.1, z.2.1, z.2.2, e, h1, h2⟩
    · rw [if_neg z] at e
      exact hdl_some hL.2 e
section
variable {A : Type} {Γ : Gm} {own : String} {cc bytes : ByteArray} {nL maxL : Nat} {ret rt : Option FieldType} {d : Nat} {pc : Nat} {lv : List (Nat × Value)} {st stk As : List Value} {ts : TS} {K : A → CH → Prop} {F : Mo CH (Nat × Int)} {mk : Int → Mo CH A} {y : MethodName} {hw : Cond} {idx n na : Nat} {x : Int} {rs : Int → List Value} {tbl : List ExceptionTableEntry}
/-- a call that may throw; the exceptions are caught -/
theorem s_cvH (o : Ok Γ own cc nL ret (d + 1)) (hx : Xt Γ tbl) (hF : SX (mg Γ) y hw rt d (vA (mg Γ) x :: As) (fun h => (h, ts)) F) (hm : MW y hw bytes maxL rt na) (hna : As.length = na) (hlk : Cond.methodLink own idx y ∈ lw_tbl) {c : Nat} {r0 : vw_C} (hr0 : wcl[c]? = some r0) (hsel : Cond.selects r0.1 y y ∈ lw_tbl) (hin : Cond.instanceMethod y ∈ lw_tbl) (hwt : wt st n) (hn8 : Nat.ble n 8 = true) (hd : decode cc pc = .ok (.invokevirtual idx, 3)) (hstk : As.reverse ++ vA (mg Γ) x :: st = stk) (hrs : ∀ r, (rt.map fun ty => enc (mg Γ) ty r).toList ++ st = rs r) {Lh : Int → List (Nat × Mo CH A)} (hL : ∀ r, HLs Γ own tbl pc lv ts K r (Lh r))
    (kk : ∀ r, (∀ ty, rt = some ty → rg ty r) → Sx Γ (fun h => (h, ts)) K (pc + 3) lv (rs r) (mk r)) : Sx Γ (fun h => (h, ts)) K pc lv stk (bnd (isk (100 + c) x) fun _ => bndH F mk (fun r => hdl r (Lh r))) := by
  intro s a s' e hK'
  obtain ⟨u, e0, e⟩ := bnd_some e
  unfold isk at e0
  split at e0
  · rename_i q
    cases e0
    obtain ⟨m1, m2, m3, m4, m5⟩ := hm
    have e : (match F s with | none => none | some (r, h') => if r.1 = 0 then mk r.2 h' else if r.1 = 1 then hdl r.2 (Lh r.2) h' else none) = some (a, s') := e
    cases hFs : F s with
    | none => rw [hFs] at e; cases e
    | some z =>
      obtain ⟨⟨t, r⟩, s1⟩ := z
      rw [hFs] at e
      have hR := hF s (t, r) s1 hFs
      have e : (if t = 0 then mk r s1 else if t = 1 then hdl r (Lh r) s1 else none) = some (a, s') := e
      rw [← hstk]
      by_cases t0 : t = 0
      · subst t0
        rw [if_pos rfl] at e
        exact e_cv o m1 hR m2 m3 (Or.inl hlk) hsel hin (rc_o o hr0 q.1 q.2.1 q.2.2) ⟨m4, by rw [hna]; exact m5⟩ hwt hn8 hd (fun hr => by rw [hrs]; exact kk r hr s1 a s' e hK')
      · rw [if_neg t0] at e
        by_cases t1 : t = 1
        · subst t1
          rw [if_pos rfl] at e
          obtain ⟨c1, m, hpc, z1, z2, z3, z4, ⟨z5, pre, row, rest, r1, y1, y2, y3, y4, y5, y6, y7⟩, z6⟩ := hdl_some (hL r) e
          intro H locs ls cells slots hH hlo hv1 hc hs T hT X
          obtain ⟨T', L, X', g1, g2, g3, g4, g5⟩ := tcall o m1 hR m2 m3 hlk hsel hin (rc_o o hr0 q.1 q.2.1 q.2.2) ⟨m4, by rw [hna]; exact m5⟩ hwt hn8 hd hH hv1 hc hs hT X
          have hc : mn Γ + cells = hn s := hc
          have hs : mz Γ + slots = hz s := hs
          have g3 : hn s ≤ hn s1 := g3
          have g4 : hz s ≤ hz s1 := g4
          obtain ⟨⟨cell, k1, k2, k3, -⟩, -⟩ := g1.ob z1 z2 (by show 100 ≤ hk s1 r; omega)
          have hrr : rR (mg Γ) r = some (gB (mg Γ) + r.toNat) := rR_pos z1
          rw [hrr] at g5
          have hcl := o.cls y5
          obtain ⟨f1, kv, f2, f3⟩ := hcl
          have k2' : cell.cls = (gD (mg Γ)).1 c1 := by
            have k2 : cell.cls = (gD (mg Γ)).1 (hk s1 r - 100) := k2
            rw [k2, z3, show 200 + c1 - 100 = 100 + c1 by omega]
            exact o.ks.2.2.2.2.2.2.2.2.1 c1 z5.1 z5.2
          have hpl : (xE (mx Γ)).platform.magicAccessors = ({} : Platform).magicAccessors := by rw [X.admits.platform]
          obtain ⟨cT, hcT, hclT⟩ := Cond.classLink_spec o.ho (o.w y6 rfl) (xE (mx Γ)).platform hpl
          cases hcT.symm.trans f1
          obtain ⟨vm', X'', st1⟩ := caught_row X' (gB (mg Γ) + r.toNat) (g := F0 (xM (mx Γ)) pc ls st) rfl (cell := cell) k1 (by rw [k3]; rfl) ⟨kv, by rw [k2']; exact f2⟩ pre row rest (by rw [← y1]; exact hx.1) (fun y hy => by
            rcases psL_at y7 y hy with w1 | ⟨w1, D, w2, w3⟩
            · exact Or.inl w1
            · obtain ⟨ct, t', v1, v2, v3⟩ := o.ht.2.2.1.2.1 _ w3
              obtain ⟨c', hc', hcl'⟩ := Cond.classLink_spec o.ho (o.w w2 rfl) (xE (mx Γ)).platform hpl
              cases v2.symm.trans hc'
              cases v1.symm.trans f1
              exact Or.inr ⟨w1, _, hcl', by rw [k2']; exact v3⟩) y3 ⟨y4, _, hclT, by rw [k2']; exact Vm.assignable_self _ _⟩
          obtain ⟨t, a1, b1⟩ := z6 s1 a s' z4 hK' T'.heap (locs ++ L) ls (cells + (hn s1 - hn s)) (slots + (hz s1 - hz s)) g1 (by
            intro z hz
            rcases List.mem_append.mp hz with hz | hz
            · exact hlo z hz
            · exact g2 z hz) hv1 (by show mn Γ + (cells + (hn s1 - hn s)) = hn s1; omega) (by show mz Γ + (slots + (hz s1 - hz s)) = hz s1; omega) (T'.setVm vm') rfl X''
          refine ⟨t, g5 _ ?_, b1⟩
          refine st1 t ?_
          rw [y2]
          rw [vA_pos z1] at a1
          exact a1
        · rw [if_neg t1] at e
          cases e
  · cases e0
end
/-! static calls of methods with handlers -/
section
variable {Γ : Gm} {own : String} {cc bytes : ByteArray} {nL maxL : Nat} {ret rt : Option FieldType} {d : Nat} {pc : Nat} {lv : List (Nat × Value)} {st As : List Value} {w w' : Wd} {y : MethodName} {hw : Cond} {idx : Nat} {r : Int} {n : Nat} {hh : List (Nat × Nat × Nat × Nat)}
theorem e_csW (o : Ok Γ own cc nL ret (d + 1)) (hcw : hw = Cond.codeWith y bytes maxL rt hh) (hM : Run (mg Γ) y hw rt d As w (0, r, w')) (hdw : cdw hw y) (hmx : Nat.ble maxL 20 = true) (hlk : Cond.methodLink own idx y ∈ lw_tbl) (hst : Cond.static y ∈ lw_tbl)
    (hy : (y.cls ≠ "java/lang/invoke/MethodHandle" ∧ y.cls ≠ "java/lang/invoke/VarHandle") ∧ (parseMethodDescriptor y.desc).map (fun d => d.parameters.length) = some As.length) (hwt : wt st n) (hn8 : Nat.ble n 8 = true) (hd : decode cc pc = .ok (.invokestatic idx, 3))
    (k : (∀ ty, rt = some ty → rg ty r) → E Γ (pc + 3) lv ((rt.map fun ty => enc (mg Γ) ty r).toList ++ st) w') : E Γ pc lv (As.reverse ++ st) w := by
  intro H locs ls cells slots hH hlo hv hc hs T hT X
  have hlen : ∀ sig, parseMethodDescriptor y.desc = some sig → As.length = sig.parameters.length := fun sig h => by
    have h2 := hy.2
    rw [h] at h2
    exact (Option.some.inj h2).symm
  have hB := bk (p := xP (mx Γ)) (e := xE (mx Γ)) (below := xB (mx Γ)) (s := xS (mx Γ)) (sargs := xA (mx Γ)) (n0 := mn Γ) (z0 := mz Γ) (len := 3) (Or.inr ⟨hh, hcw⟩) hdw (Nat.le_of_ble_eq_true hmx) hM
  rw [← o.hR] at hB
  have hW8 : 2 * (F0 (xM (mx Γ)) pc ls (As.reverse ++ st)).monitorRoom + (st.map fun v => v.category).sum ≤ 8 := lv_room (Nat.le_trans hwt (Nat.le_of_ble_eq_true hn8))
  have hcode : (Cond.codeWith y bytes maxL rt hh).before (xA (mx Γ)) (xS (mx Γ)) = true := by rw [← hcw]; exact o.w hdw.1 hdw.2.1
  have hsz : (F0 (xM (mx Γ)) pc ls (As.reverse ++ st)).locals.size = (xC (mx Γ)).maxLocals := by rw [o.hm, ← o.hL]; exact hv.1
  have hp : ∀ vm₁, (xS (mx Γ)).WarmedH vm₁ → PreX (mg Γ) (xR (mx Γ)) As w ⟨T.setVm vm₁, locs, cells, slots⟩ As.toArray := fun vm₁ hW₁ => by rw [o.hR]; exact preX o hH hc hs hT hW₁ As
  obtain ⟨mk, methM, cM, hnamed, hmethM, -, -, -, -, -, -, hsigM⟩ := Cond.codeWith_spec hcode
  have hstatic : methM.isStatic = true := Cond.static_spec hnamed hmethM (o.w hst rfl)
  obtain ⟨kP, hkP, -⟩ := className_of_methodNamed hnamed
  have hinitP : kP.init = .initialized := Cond.initialized_spec (findClass_of_methodNamed hnamed) hkP (o.w hdw.2.2 rfl)
  obtain ⟨vm₁, X₁, hstep₁⟩ := X.invokestatic o.hx o.ho (o.w hlk rfl) hnamed hmethM hstatic hkP hinitP hy.1 (g := F0 (xM (mx Γ)) pc ls (As.reverse ++ st)) rfl (argsL := As) (rest := st) (hlen _ hsigM) rfl (by rw [o.hb]; exact hd)
  obtain ⟨v, B, X', hpost, hsteps⟩ := hB (xM (mx Γ)) (xMe (mx Γ)) (xC (mx Γ)) ⟨T.setVm vm₁, locs, cells, slots⟩ { F0 (xM (mx Γ)) pc ls (As.reverse ++ st) with stack := st } (.invokestatic idx) mk As.toArray X₁ rfl hsz (by rw [o.hb]; exact hd) hW8 (X₁.named hnamed) (hp vm₁ X₁.warmed)
  exact finX k hc hs hlo hv (A := ⟨T.setVm vm₁, locs, cells, slots⟩) ⟨rfl, rfl, rfl⟩ ⟨v, B, X', hpost, fun target h => hstep₁ _ fun acts => by rw [doInvoke_state]; exact hsteps.trans h⟩
end
