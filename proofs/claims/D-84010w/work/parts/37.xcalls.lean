/-! ROWS 16: methods that throw, calls of them -/
set_option maxRecDepth 100000
def Xt (Γ : Gm) (tbl : List ExceptionTableEntry) : Prop := (xC (mx Γ)).exceptionTable.toList = tbl ∧ ∃ w0, HR (mg Γ) w0 (xS (mx Γ)).heap
theorem Run.ofX {g : gC} {y : MethodName} {cc : ByteArray} {nL : Nat} {ret : Option FieldType} {d : Nat} {args : List Value} {w : Wd} {tg : Tg} {hw : Cond} {tbl : List ExceptionTableEntry}
    (hy : plainFor y = true) (hcw : (hw = Cond.code y cc nL ret ∧ tbl = []) ∨ ∃ hh, hw = Cond.codeWith y cc nL ret hh ∧ tbl = tableOf hh) (hnl : (lg_sl args).length ≤ nL)
    (body : ∀ Γ : Gm, mg Γ = g → mn Γ = hn w.1 → mz Γ = hz w.1 → mt Γ = tg → (xMe (mx Γ)).name = y.name → Ok Γ y.cls cc nL ret d → Xt Γ tbl → E Γ 0 (lv_args 0 args) [] w) : Run g y hw ret d args w tg := by
  refine MetFree.of_bodySF (code := cc) (maxLocals := nL) (ret := ret) hy ?_ ?_
  · intro a s m h hn
    have h0 := atoms_spec (ws := [hw]) h _ List.mem_cons_self
    rcases hcw with ⟨rfl, -⟩ | ⟨hh, rfl, -⟩
    · obtain ⟨meth, c, h1, h2, h3, h4, h5, h6, -, -⟩ := Cond.code_spec hn h0
      exact ⟨meth, c, h1, h2, h3, h4, h5, h6⟩
    · obtain ⟨m9, meth, c, hn9, h1, h2, h3, h4, -, h5, h6, -⟩ := Cond.codeWith_spec h0
      cases hn.symm.trans hn9
      exact ⟨meth, c, h1, h2, h3, h4, h5, h6⟩
  · intro p e s m a below meth c s₁ B hml hP _
    obtain ⟨rfl, hH, hT⟩ := hP
    have hh0 : s₁.heap = s.heap := by rw [B.state]; rfl
    have hl := lv_entry args (n := nL) hnl
    have X0 := Stand.of_body B
    have hX : c.exceptionTable.toList = tbl := by
      have h0 := atoms_spec (ws := [hw]) B.pre _ List.mem_cons_self
      rcases hcw with ⟨rfl, rfl⟩ | ⟨hh, rfl, rfl⟩
      · obtain ⟨meth', c', h1, h2, -, -, -, -, h7, -⟩ := Cond.code_spec B.named h0
        cases h1.symm.trans B.method
        cases h2.symm.trans X0.code
        have : c.exceptionTable = #[] := by simpa using h7
        rw [this]
      · obtain ⟨m9, meth', c', hn9, h1, h2, h3, h4, h7, -⟩ := Cond.codeWith_spec h0
        cases B.named.symm.trans hn9
        cases h1.symm.trans B.method
        cases h2.symm.trans X0.code
        rw [← h7, table_eq]
    have hE := body (g, (p, e, rmd d (hn w.1) (hz w.1), s, m, args.toArray, below, meth, c), ret, hn w.1, hz w.1, nL, tg) rfl rfl rfl rfl (name_of_methodNamed B.named B.method).1 ⟨B.exec, B.bytes, hml, rfl, B.returns, rfl, B.notSynchronized, findClass_of_methodNamed B.named, hT, rfl⟩ ⟨hX, w, hH⟩
      s.heap [] _ 0 0 hH (fun q hq => by cases hq) hl (Nat.add_zero _) (Nat.add_zero _)
    obtain ⟨t, a1, b1⟩ := hE s₁ hh0 X0
    obtain ⟨c1, c2, c3⟩ := MQx_Q (a := args.toArray) b1
    refine ⟨t, _, ?_, c1, c2, c3⟩
    rw [lg_entry_eq]
    exact a1
/-- a method that returns (0, answer) or throws (1, exception) -/
def SX {σ : Type} (g : gC) (y : MethodName) (hw : Cond) (ret : Option FieldType) (d : Nat) (args : List Value) (wld : σ → Wd) (F : Mo σ (Nat × Int)) : Prop :=
  ∀ s r s', F s = some (r, s') → Run g y hw ret d args (wld s) (r.1, r.2, wld s')
theorem SX.of {σ : Type} {g : gC} {y : MethodName} {cc : ByteArray} {nL : Nat} {ret : Option FieldType} {d : Nat} {args : List Value} {wld : σ → Wd} {F : Mo σ (Nat × Int)} {lv : List (Nat × Value)} {n : Nat}
    (hy : plainFor y = true) (hwt : wt args n) (hnl : Nat.ble n nL = true) (hlv : lv_args 0 args = lv)
    (body : ∀ Γ : Gm, mg Γ = g → (xMe (mx Γ)).name = y.name → Ok Γ y.cls cc nL ret d → Xt Γ [] → Sx Γ wld (fun a s => mt Γ = (a.1, a.2, wld s)) 0 lv [] F) : SX g y (Cond.code y cc nL ret) ret d args wld F := by
  intro s r s' e
  refine Run.ofX hy (Or.inl ⟨rfl, rfl⟩) ?_ (fun Γ h1 h2 h3 h4 h5 o hx => ?_)
  · rw [lg_len]
    exact Nat.le_trans hwt (Nat.le_of_ble_eq_true hnl)
  · rw [hlv]
    exact body Γ h1 h5 o hx s r s' e h4
theorem SW.of {σ : Type} {g : gC} {y : MethodName} {cc : ByteArray} {nL : Nat} {ret : Option FieldType} {d : Nat} {args : List Value} {wld : σ → Wd} {F : Mo σ Int} {lv : List (Nat × Value)} {n : Nat} {hh : List (Nat × Nat × Nat × Nat)}
    (hy : plainFor y = true) (hwt : wt args n) (hnl : Nat.ble n nL = true) (hlv : lv_args 0 args = lv)
    (body : ∀ Γ : Gm, mg Γ = g → (xMe (mx Γ)).name = y.name → Ok Γ y.cls cc nL ret d → Xt Γ (tableOf hh) → Sx Γ wld (fun a s => mt Γ = (0, a, wld s)) 0 lv [] F) : SF g y (Cond.codeWith y cc nL ret hh) ret d args wld F := by
  intro s r s' e
  refine Run.ofX hy (Or.inr ⟨hh, rfl, rfl⟩) ?_ (fun Γ h1 h2 h3 h4 h5 o hx => ?_)
  · rw [lg_len]
    exact Nat.le_trans hwt (Nat.le_of_ble_eq_true hnl)
  · rw [hlv]
    exact body Γ h1 h5 o hx s r s' e h4
/-! a new exception, thrown -/
def thr (c : Nat) : Mo CH Int := fun h => if hn h + 1 ≤ NM ∧ hz h + 6 ≤ ZM then some ((hn h : Int) + 1, hnew h (200 + c) 0 6) else none
section
variable {Γ : Gm} {own : String} {cc : ByteArray} {nL : Nat} {ret : Option FieldType} {d : Nat} {pc : Nat} {lv : List (Nat × Value)} {ts : TS} {K : Nat × Int → CH → Prop}
theorem s_throw (o : Ok Γ own cc nL ret (d + 8)) (hx : Xt Γ []) {c : Nat} {C : String} (hok : mk_ok c C) (hcr : 28 ≤ c ∧ c ≤ 31) {i0 ic : Nat} (hw : Cond.classLink own i0 C ∈ lw_tbl) (hat : ∀ a ∈ thAtoms own ic C ["java/lang/RuntimeException", "java/lang/Exception"], (a ∈ lw_tbl ∧ kw a = true) ∨ a = Cond.laysStatic Bundle.tN "UNASSIGNED_STACK" Bundle.steD ∨ a = Cond.laysStatic Bundle.tN "SUPPRESSED_SENTINEL" Bundle.listD) (hfit : Bundle.fit C = true)
    (d0 : decode cc pc = .ok (.new i0, 3)) (d3 : decode cc (pc + 3) = .ok (.dup, 1)) (d4 : decode cc (pc + 4) = .ok (.invokespecial ic, 3)) (d7 : decode cc (pc + 7) = .ok (.athrow, 1)) (hK : ∀ x s, K (1, x) s → mt Γ = (1, x, ((s, ts) : Wd))) : Sx Γ (fun h => (h, ts)) K pc lv [] (bnd (thr c) fun x => pr (1, x)) := by
  intro h b h' e hK'
  obtain ⟨r, e1, e2⟩ := bnd_some e
  unfold thr at e1
  split at e1
  · rename_i q
    obtain ⟨q1, q2⟩ := q
    cases e1
    cases e2
    have hmt := hK _ _ hK'
    obtain ⟨rr, hr, rfl, hins, hini, hfd⟩ := hok
    have hw6 : wN c = 6 := by
      have : c = 28 ∨ c = 29 ∨ c = 30 ∨ c = 31 := by omega
      rcases this with rfl | rfl | rfl | rfl <;> rfl
    have hw0 : wN (100 + c) = 0 := by
      have : c = 28 ∨ c = 29 ∨ c = 30 ∨ c = 31 := by omega
      rcases this with rfl | rfl | rfl | rfl <;> rfl
    rw [hw6] at hins
    intro H locs ls cells slots hH hlo hv1 hc hs
    have f1 : H.size = gB (mg Γ) + 1 + hn h := hH.1
    have hc : mn Γ + cells = hn h := hc
    have hs : mz Γ + slots = hz h := hs
    have hKn := o.ht.2.1.1 _ _ hr
    have hRR := o.hR
    refine W.newcK o.hx o.hb o.ho (o.w hw rfl) (o.w hins rfl) (o.w hini rfl) rfl d0 (by rw [hRR]; show cells + 1 ≤ NM - mn Γ; omega) (by rw [hRR]; show slots + 6 ≤ ZM - mz Γ; omega) hKn.2.1 rfl (fun H1 kC hkC g1 g2 g3 => ?_)
    refine lv_dup o.hx o.hb d3 rfl ?_
    intro T hT X
    have hold : ∀ a : Nat, a < (gH (mg Γ)).size → ¬ AB (mg Γ) a → T.heap[a]? = (gH (mg Γ))[a]? := by
      intro a ha1 ha2
      have ha3 : a ≤ gB (mg Γ) := Nat.le_of_not_lt ha2
      rw [hT, g3 a (by omega)]
      exact hH.2.1 a ha3
    have hZ : ∀ {n ds : String}, va_Zq "java/lang/Throwable" n ds (AB (mg Γ)) (xS (mx Γ)) (gH (mg Γ)) → ∃ u : RefV, va_Z "java/lang/Throwable" n ds u.v (AB (mg Γ)) (xS (mx Γ)) T.heap := by
      intro n ds hq
      rcases hq with hq | ⟨t, hq⟩
      · exact ⟨⟨.null, rfl⟩, hq.kept hold⟩
      · exact ⟨⟨.ref t, rfl⟩, hq.kept hold⟩
    obtain ⟨u0, hU⟩ := hZ o.ks.2.2.2.2.2.1
    obtain ⟨sen, hS⟩ := hZ o.ks.2.2.2.2.2.2.1
    have htr : (xE (mx Γ)).platform.stackTraces = false := by
      rw [X.admits.platform]
      exact o.ks.2.2.2.2.2.2.2.2.2.2.1
    obtain ⟨w0, hH0⟩ := hx.2
    have hLS : ∀ {n ds : String}, LSt Bundle.tN n ds (AB (mg Γ)) (xS (mx Γ)) (gH (mg Γ)) → (Cond.laysStatic Bundle.tN n ds).before (xA (mx Γ)) (xS (mx Γ)) = true := by
      intro n ds hq
      obtain ⟨c', k', i', f', a', cell', h0, h1, h2, h3, h4, h5, h6, h7, h8, h9⟩ := hq
      exact Cond.laysStatic_of h0 h1 h2 h3 (by rw [hH0.old a' (Array.getElem?_eq_some_iff.mp h4).1 h9]; exact h4) h5 h6 h7 h8
    have hwords : ∀ a ∈ thAtoms own ic rr.1 ["java/lang/RuntimeException", "java/lang/Exception"], a.before (xA (mx Γ)) (xS (mx Γ)) = true := by
      intro a ha
      rcases hat a ha with q | q | q
      · exact o.w q.1 q.2
      · rw [q]; exact hLS o.ks.2.2.2.2.2.2.2.2.2.2.2.1
      · rw [q]; exact hLS o.ks.2.2.2.2.2.2.2.2.2.2.2.2
    obtain ⟨U, ce, L, s1, s2, s3, s4, s5, s6, s7, s8, s9⟩ := throw0 X o.hx htr o.ho hfit (by decide) hwords hU hS (a := H.size) (by show gB (mg Γ) < H.size; omega) hKn.2.1 hkC (by rw [hT]; exact g1)
      (g := F0 (xM (mx Γ)) (pc + 3 + 1) ls [.ref H.size, .ref H.size]) rfl (by rw [o.hm, ← o.hL]; exact hv1.1) rfl rfl rfl (by rw [o.hb]; exact d4) (by rw [o.hb]; exact d7) (by rw [show (xC (mx Γ)).exceptionTable.toList = [] from hx.1]; intro x hx; cases hx) (by rw [hRR]; show 2 + 3 < d + 8; omega) (by
        rw [hRR]
        have : 2 * (F0 (xM (mx Γ)) (pc + 3 + 1) ls [.ref H.size, .ref H.size]).monitorRoom = 0 := rfl
        rw [this]
        show 0 + 1 + (13 * 3 + 41) ≤ 46 * (d + 8) + 192
        omega) o.hk
    refine ⟨U, s1, ?_⟩
    have hHsz : H.size < H1.size := by omega
    have hrr : rR (mg Γ) ((hn h : Int) + 1) = some H.size := by
      rw [rR_pos (by omega)]
      congr 1
      omega
    rw [hT] at s7
    unfold MQx
    rw [hmt]
    refine ⟨s2, ?_, (fun ty _ q => by cases q), ?_, by show mn Γ ≤ hn h + 1; omega, by show mz Γ ≤ hz h + 6; omega, locs ++ L, s4, ?_, ?_⟩
    · show Ended U _ (if (1 : Nat) = 1 then Outcome.threw ((rR (mg Γ) ((hn h : Int) + 1)).getD 0) else _)
      rw [if_pos rfl, hrr]
      exact s3
    · show HR (mg Γ) (hnew h (200 + c) 0 6, ts) U.heap
      refine hH.new q1 q2 (by rw [s7]; simp; exact g2) (fun q hq => ?_) ?_ ?_
      · rw [s7]
        have hne : H.size ≠ q := by omega
        simp only [Array.getElem?_setIfInBounds, hne, if_false]
        exact g3 q hq
      · unfold cAt
        show (if hk (hnew h (200 + c) 0 6) ((hn h : Int) + 1) = 99 then _ else if hk (hnew h (200 + c) 0 6) ((hn h : Int) + 1) < 99 then _ else t_OB (gB (mg Γ) + ((hn h : Int) + 1).toNat) ((gD (mg Γ)).1 (hk (hnew h (200 + c) 0 6) ((hn h : Int) + 1) - 100)) (wN (hk (hnew h (200 + c) 0 6) ((hn h : Int) + 1) - 100)) ((gD (mg Γ)).2 (hk (hnew h (200 + c) 0 6) ((hn h : Int) + 1) - 100)) U.heap (fun k => enc (mg Γ) (wty (hk (hnew h (200 + c) 0 6) ((hn h : Int) + 1) - 100) k) (hv (hnew h (200 + c) 0 6) ((hn h : Int) + 1) k)))
        rw [hnew_k, if_neg (by omega), if_neg (by omega), show 200 + c - 100 = 100 + c by omega, hw0, show gB (mg Γ) + ((hn h : Int) + 1).toNat = H.size by omega, o.ks.2.2.2.2.2.2.2.2.1 c hcr.1 hcr.2]
        refine ⟨ce, ?_, s9, s8, fun k hk => absurd hk (Nat.not_lt_zero _)⟩
        rw [s7]
        simp [Array.getElem?_setIfInBounds, hHsz]
      · unfold cR
        show (if hk (hnew h (200 + c) 0 6) ((hn h : Int) + 1) = 99 then _ else if hk (hnew h (200 + c) 0 6) ((hn h : Int) + 1) < 99 then _ else ∀ k : Nat, k < wN (hk (hnew h (200 + c) 0 6) ((hn h : Int) + 1) - 100) → rg (wty (hk (hnew h (200 + c) 0 6) ((hn h : Int) + 1) - 100) k) (hv (hnew h (200 + c) 0 6) ((hn h : Int) + 1) k))
        rw [hnew_k, if_neg (by omega), if_neg (by omega), show 200 + c - 100 = 100 + c by omega, hw0]
        exact fun k hk => absurd hk (Nat.not_lt_zero _)
    · have e1 : hn h + 1 - mn Γ = cells + 1 := by omega
      have e2 : hz h + 6 - mz Γ = slots + 6 := by omega
      show (xS (mx Γ)).sameButNew _ (locs ++ L) (hn h + 1 - mn Γ) (hz h + 6 - mz Γ)
      rw [e1, e2]
      exact s5
    · intro z hz
      rcases List.mem_append.mp hz with hz | hz
      · exact hlo z hz
      · rw [s6 z hz]
        omega
  · cases e1
end
/-! calls of methods that throw -/
section
variable {Γ : Gm} {own : String} {cc bytes : ByteArray} {nL maxL : Nat} {ret rt : Option FieldType} {d : Nat} {pc : Nat} {lv : List (Nat × Value)} {st As : List Value} {w w' : Wd} {y : MethodName} {hw : Cond} {idx : Nat} {r x : Int} {H : Heap} {locs : List Loc} {ls : Array Slot} {cells slots : Nat} {n : Nat}
theorem tcall (o : Ok Γ own cc nL ret (d + 1)) {C : String} (hcw : hw = Cond.code y bytes maxL rt) (hM : Run (mg Γ) y hw rt d (vA (mg Γ) x :: As) w (1, r, w')) (hdw : cdw hw y) (hmx : Nat.ble maxL 20 = true) (hlk : Cond.methodLink own idx y ∈ lw_tbl) (hsel : Cond.selects C y y ∈ lw_tbl) (hin : Cond.instanceMethod y ∈ lw_tbl) (hrc : RC Γ w x C)
    (hy : (y.cls ≠ "java/lang/invoke/MethodHandle" ∧ y.cls ≠ "java/lang/invoke/VarHandle") ∧ (parseMethodDescriptor y.desc).map (fun d => d.parameters.length) = some As.length) (hwt : wt st n) (hn8 : Nat.ble n 8 = true) (hd : decode cc pc = .ok (.invokevirtual idx, 3))
    (hH : HR (mg Γ) w H) (hv : lv_has ls (mL Γ) lv) (hc : mn Γ + cells = hn w.1) (hs : mz Γ + slots = hz w.1) {T : State} (hT : T.heap = H) (X : Stand (xP (mx Γ)) (gL (mg Γ)) (xE (mx Γ)) (xR (mx Γ)) (xS (mx Γ)) (xM (mx Γ)) (xA (mx Γ)) (xB (mx Γ)) (xMe (mx Γ)) (xC (mx Γ)) T locs cells slots) :
    ∃ (T' : State) (L : List Loc), Stand (xP (mx Γ)) (gL (mg Γ)) (xE (mx Γ)) (xR (mx Γ)) (xS (mx Γ)) (xM (mx Γ)) (xA (mx Γ)) (xB (mx Γ)) (xMe (mx Γ)) (xC (mx Γ)) T' (locs ++ L) (cells + (hn w'.1 - hn w.1)) (slots + (hz w'.1 - hz w.1)) ∧ HR (mg Γ) w' T'.heap ∧ (∀ q ∈ L, gB (mg Γ) < q.base) ∧ hn w.1 ≤ hn w'.1 ∧ hz w.1 ≤ hz w'.1 ∧
      ∀ target, Steps (xP (mx Γ)).tables (xE (mx Γ)) (xB (mx Γ)) ((T'.setTop (F0 (xM (mx Γ)) pc ls st)).pushFrame (.throwing ((rR (mg Γ) r).getD 0))) target → Steps (xP (mx Γ)).tables (xE (mx Γ)) (xB (mx Γ)) (T.setTop (F0 (xM (mx Γ)) pc ls (As.reverse ++ vA (mg Γ) x :: st))) target := by
  subst hcw
  have hlen : ∀ sig, parseMethodDescriptor y.desc = some sig → As.length = sig.parameters.length := fun sig h => by
    have h2 := hy.2
    rw [h] at h2
    exact (Option.some.inj h2).symm
  obtain ⟨ad, hx0, hrc⟩ := hrc
  obtain ⟨cell, r1, r2, r3⟩ := hrc H hH
  rw [← hT] at r1
  rw [hx0] at hM ⊢
  obtain ⟨mk, methM, hnamed, hmethM, hstM, habM⟩ := Cond.instanceMethod_spec (o.w hin rfl)
  obtain ⟨methM', cM, hmethM', hcM, hbM, hlM, hrM, hkM, -, hsigM⟩ := Cond.code_spec hnamed (o.w hdw.1 hdw.2.1)
  cases hmethM.symm.trans hmethM'
  obtain ⟨c2, r2', m2, q1, q2, q3, q4, kP, hkP, hkPi⟩ := Cond.selects_spec (o.w hsel rfl)
  cases r3.symm.trans q1
  cases (State.methodFound?_of_named hnamed hy.1).symm.trans q2
  cases hnamed.symm.trans q3
  have hselP : selectMethod (xE (mx Γ)).platform (xS (mx Γ)).vm cell.cls mk = .method mk := by rw [Launch.admits_selectMethod X.admits]; exact q4
  obtain ⟨vm₁, X₁, hstep₁⟩ := X.invokevirtual o.hx o.ho (o.w hlk rfl) hnamed hmethM hstM hkP hkPi hy.1 (a := ad) (cell := cell) r1
    (fun z h => by rw [h] at r2; cases r2) hselP hmethM habM hkP hkPi (g := F0 (xM (mx Γ)) pc ls (As.reverse ++ .ref ad :: st)) rfl (argsL := As) (rest := st) (hlen _ hsigM) rfl (by rw [o.hb]; exact hd)
  have hn1 := X₁.named hnamed
  have hTK : TK (mg Γ) (T.setVm vm₁) := o.ht.warm X₁.warmed
  have hwd := hTK.1.use hdw.1 hdw.2.1 (Value.ref ad :: As).toArray
  obtain ⟨methY, cY, hmY, hcY, -, hlY, -, -, -, -⟩ := Cond.code_spec hn1 hwd
  obtain ⟨kY, hkY, -⟩ := className_of_methodNamed hn1
  have hinitY : kY.init = .initialized := Cond.initialized_spec (findClass_of_methodNamed hn1) hkY (hTK.1.use hdw.2.2 rfl (Value.ref ad :: As).toArray)
  have hRR := o.hR
  have hsz : (F0 (xM (mx Γ)) pc ls st).locals.size = (xC (mx Γ)).maxLocals := by rw [o.hm, ← o.hL]; exact hv.1
  have hnm := hH.2.2.1.1
  have hzm := hH.2.2.2.1
  have happ : (headSpec [Cond.code y bytes maxL rt] (rmd d (hn w.1) (hz w.1))).appliesLoose y (xE (mx Γ)).platform ((T.setVm vm₁).calling (F0 (xM (mx Γ)) pc ls st) mk (Value.ref ad :: As).toArray) = true :=
    Spec.appliesLoose_calling (g := F0 (xM (mx Γ)) pc ls st) X₁.here (by rw [o.hb]; exact hd) hn1 hkY hinitY
      (X₁.room_calling (g := F0 (xM (mx Γ)) pc ls st) (R' := rmd d (hn w.1) (hz w.1)) hsz hmY hcY (by rw [hRR]; exact Nat.le_refl _) (by
        rw [hRR, hlY]
        have h8 : 2 * (F0 (xM (mx Γ)) pc ls st).monitorRoom + (st.map fun v => v.category).sum ≤ 8 := lv_room (Nat.le_trans hwt (Nat.le_of_ble_eq_true hn8))
        have h20 := Nat.le_of_ble_eq_true hmx
        show 2 * (F0 (xM (mx Γ)) pc ls st).monitorRoom + (st.map fun v => v.category).sum + (maxL + 11) + (46 * d + 192) ≤ 46 * (d + 1) + 192
        omega) (by rw [hRR]; show cells + (NM - hn w.1) ≤ NM - mn Γ; omega) (by rw [hRR]; show slots + (ZM - hz w.1) ≤ ZM - mz Γ; omega)) (atoms_intro (fun c0 h0 => by rw [List.mem_singleton.mp h0]; exact hwd))
  have hfr : ((T.setVm vm₁).setTop (F0 (xM (mx Γ)) pc ls st)).frames = [Frame.java (F0 (xM (mx Γ)) pc ls st)] ++ xB (mx Γ) := by
    rw [State.frames_setTop' _ X₁.here.top, X₁.tail]
    rfl
  obtain ⟨o', s₂, hsteps, -, hend, hq⟩ := Steps.callFree hM (xP (mx Γ)) X₁.admits X₁.cas X₁.clock (acts := []) hfr happ ⟨rfl, by show HR _ _ T.heap; rw [hT]; exact hH, hTK.calling _ _ _⟩ trivial
  obtain ⟨h1, h2, h3, h4, h5, L, h6, h7, h8⟩ := hq
  rw [h1, hfr] at hend
  obtain ⟨T', X', hWT, hsameT, ht⟩ := X₁.outOfThrown (g := F0 (xM (mx Γ)) pc ls st) rfl hend h6 h7
  refine ⟨T', L, X', ?_, h8, h4, h5, fun target h => hstep₁ _ fun acts => ?_⟩
  · rw [ht] at h3
    have : ((T'.setTop (F0 (xM (mx Γ)) pc ls st)).pushFrame (.throwing ((rR (mg Γ) r).getD 0))).heap = T'.heap := Stand.throwing_heap _ _ _
    rw [this] at h3
    exact h3
  · rw [doInvoke_state]
    exact hsteps.trans (by rw [ht]; exact h)
end
def bndX (F : Mo CH (Nat × Int)) (mk : Int → Mo CH (Nat × Int)) : Mo CH (Nat × Int) := fun h => match F h with
  | none => none
  | some (r, h') => if r.1 = 0 then mk r.2 h' else if r.1 = 1 then some ((1, r.2), h') else none
section
variable {Γ : Gm} {own : String} {cc bytes : ByteArray} {nL maxL : Nat} {ret rt : Option FieldType} {d : Nat} {pc : Nat} {lv : List (Nat × Value)} {st stk As : List Value} {ts : TS} {K : Nat × Int → CH → Prop} {F : Mo CH (Nat × Int)} {mk : Int → Mo CH (Nat × Int)} {y : MethodName} {hw : Cond} {idx n na : Nat} {x : Int} {rs : Int → List Value}
/-- a call that may throw; nothing is caught -/
theorem s_cvX (o : Ok Γ own cc nL ret (d + 1)) (hx : Xt Γ []) (hF : SX (mg Γ) y hw rt d (vA (mg Γ) x :: As) (fun h => (h, ts)) F) (hm : MW y hw bytes maxL rt na) (hna : As.length = na) (hlk : Cond.methodLink own idx y ∈ lw_tbl) {c : Nat} {r0 : vw_C} (hr0 : wcl[c]? = some r0) (hsel : Cond.selects r0.1 y y ∈ lw_tbl) (hin : Cond.instanceMethod y ∈ lw_tbl) (hwt : wt st n) (hn8 : Nat.ble n 8 = true) (hd : decode cc pc = .ok (.invokevirtual idx, 3)) (hstk : As.reverse ++ vA (mg Γ) x :: st = stk) (hrs : ∀ r, (rt.map fun ty => enc (mg Γ) ty r).toList ++ st = rs r) (hK : ∀ x s, K (1, x) s → mt Γ = (1, x, ((s, ts) : Wd)))
    (kk : ∀ r, (∀ ty, rt = some ty → rg ty r) → Sx Γ (fun h => (h, ts)) K (pc + 3) lv (rs r) (mk r)) : Sx Γ (fun h => (h, ts)) K pc lv stk (bnd (isk (100 + c) x) fun _ => bndX F mk) := by
  intro s a s' e hK'
  obtain ⟨u, e0, e⟩ := bnd_some e
  unfold isk at e0
  split at e0
  · rename_i q
    cases e0
    obtain ⟨m1, m2, m3, m4, m5⟩ := hm
    have e : (match F s with | none => none | some (r, h') => if r.1 = 0 then mk r.2 h' else if r.1 = 1 then some ((1, r.2), h') else none) = some (a, s') := e
    cases hFs : F s with
    | none => rw [hFs] at e; cases e
    | some z =>
      obtain ⟨⟨t, r⟩, s1⟩ := z
      rw [hFs] at e
      have hR := hF s (t, r) s1 hFs
      have e : (if t = 0 then mk r s1 else if t = 1 then some ((1, r), s1) else none) = some (a, s') := e
      rw [← hstk]
      by_cases t0 : t = 0
      · subst t0
        rw [if_pos rfl] at e
        exact e_cv o m1 hR m2 m3 (Or.inl hlk) hsel hin (rc_o o hr0 q.1 q.2.1 q.2.2) ⟨m4, by rw [hna]; exact m5⟩ hwt hn8 hd (fun hr => by rw [hrs]; exact kk r hr s1 a s' e hK')
      · rw [if_neg t0] at e
        by_cases t1 : t = 1
        · subst t1
          rw [if_pos rfl] at e
          cases e
          have hmt := hK _ _ hK'
          intro H locs ls cells slots hH hlo hv1 hc hs T hT X
          obtain ⟨T', L, X', g1, g2, g3, g4, g5⟩ := tcall o m1 hR m2 m3 hlk hsel hin (rc_o o hr0 q.1 q.2.1 q.2.2) ⟨m4, by rw [hna]; exact m5⟩ hwt hn8 hd hH hv1 hc hs hT X
          obtain ⟨p1, p2, p3, p4, p5⟩ := X'.leaveThrown ((rR (mg Γ) r).getD 0) (g := F0 (xM (mx Γ)) pc ls st) rfl rfl rfl (by rw [show (xC (mx Γ)).exceptionTable.toList = [] from hx.1]; intro x hx; cases hx) o.hk
          refine ⟨_, g5 _ p1, ?_⟩
          have hc : mn Γ + cells = hn s := hc
          have hs : mz Γ + slots = hz s := hs
          have g3 : hn s ≤ hn s' := g3
          have g4 : hz s ≤ hz s' := g4
          unfold MQx
          rw [hmt]
          refine ⟨p2, p3, (fun ty _ q => by cases q), g1, by show mn Γ ≤ hn s'; omega, by show mz Γ ≤ hz s'; omega, locs ++ L, p4, ?_, ?_⟩
          · have e1 : cells + (hn s' - hn s) = hn s' - mn Γ := by omega
            have e2 : slots + (hz s' - hz s) = hz s' - mz Γ := by omega
            show (xS (mx Γ)).sameButNew _ (locs ++ L) (hn s' - mn Γ) (hz s' - mz Γ)
            rw [← e1, ← e2]
            exact p5
          · intro z hz
            rcases List.mem_append.mp hz with hz | hz
            · exact hlo z hz
            · exact g2 z hz
        · rw [if_neg t1] at e
          cases e
  · cases e0
end
