/-! ROWS 10: references: stores, casts, tests; the rows of made cells with what stands on the stack named; calls that choose by the class -/
set_option maxRecDepth 100000
/-- the class of a kind -/
def kcl (g : gC) (q : Nat) : ClassId := if q < 99 then gA g q else (gD g).1 (q - 100)
/-- a value of the kind q may be stored in an array of references of kind kd -/
def asg (Γ : Gm) (kd q : Nat) : Prop := ∃ (k kcomp : Class) (comp : ClassId), (xS (mx Γ)).vm.classes[gA (mg Γ) kd]? = some k ∧ k.kind = .array comp (aty kd) ∧ (xS (mx Γ)).vm.classes[comp]? = some kcomp ∧ (∃ kv : Class, (xS (mx Γ)).vm.classes[kcl (mg Γ) q]? = some kv) ∧ (xS (mx Γ)).vm.assignable (kcl (mg Γ) q) comp = true
section
variable {p : Program} {l : Launch} {e : Env} {R : Room} {s : State} {m : MethodId} {args : Array Value} {below : List Frame} {meth : Method} {c : Code} {H : Heap} {locs : List Loc} {cells slots : Nat} {Q : State → Prop} {cc : ByteArray}
/-- null into an array of references of any element type -/
theorem aaN0 {T : State} (X : Stand p l e R s m args below meth c T locs cells slots) (hexec : p.tables.exec = Jvm.exec) {a : Addr} {cell : Cell} {t : FieldType} {j : Int32} (hcell : T.heap[a]? = some cell) (harr : s.isArrayOf cell t) (ht : fits t .null = true) (hknown : cell.vm ≠ .unknown)
    (hin : ¬ (j < 0 ∨ cell.slots.size ≤ j.toNatClampNeg))
    {g : JFrame} (hg : g.method = m) {rest : List Value} (hstack : g.stack = .null :: .int j :: .ref a :: rest) (hdg : decode c.code g.pc = .ok (.aastore, 1)) :
    Stand p l e R s m args below meth c (T.setCell a (cell.setSlot j.toNatClampNeg .null)) (locs ++ [⟨a, j.toNatClampNeg⟩]) cells slots ∧
      ∀ target, Steps p.tables e below ((T.setCell a (cell.setSlot j.toNatClampNeg .null)).setTop { g with pc := g.pc + 1, stack := rest }) target → Steps p.tables e below (T.setTop g) target := by
  have hT := State.isArrayOf_alike X.warmed.alike harr
  have hfit : T.fitsSlot cell.cls cell.vm j.toNatClampNeg .null = true := by
    obtain ⟨hobj, k, hk, comp, hkind⟩ := hT
    cases hvm : cell.vm <;> first | exact absurd hvm (hobj _) | simp [State.fitsSlot, State.slotType?, hk, hkind, ht]
  refine ⟨X.stored hcell _ _, fun target hrest => ?_⟩
  subst hg
  jvm_step X.here [hexec, hdg]
  refine aastore.wp_of_null (c := cell) (t := t) X.here.top hstack hcell hT hin hknown (Nat.not_le.mp fun q => hin (Or.inr q)) hfit ?_
  intro acts
  rw [afterInstr_ok]
  exact hrest
theorem W_aaN (hexec : p.tables.exec = Jvm.exec) (hb : c.code = cc) {a : Addr} {cell : Cell} {t : FieldType} {j : Int32} (hcell : H[a]? = some cell) (harr : s.isArrayOf cell t) (ht : fits t .null = true) (hknown : cell.vm ≠ .unknown) (hin : ¬ (j < 0 ∨ cell.slots.size ≤ j.toNatClampNeg))
    {g : JFrame} (hg : g.method = m) {rest : List Value} (hstack : g.stack = .null :: .int j :: .ref a :: rest) (hdg : decode cc g.pc = .ok (.aastore, 1))
    (kk : ∀ H' : Heap, H'[a]? = some (cell.setSlot j.toNatClampNeg .null) → H'.size = H.size → (∀ q, q ≠ a → H'[q]? = H[q]?) → W p l e R s m args below meth c H' (locs ++ [⟨a, j.toNatClampNeg⟩]) cells slots Q { g with pc := g.pc + 1, stack := rest }) :
    W p l e R s m args below meth c H locs cells slots Q g := by
  intro T hT X
  have hT' : T.heap[a]? = some cell := by rw [hT]; exact hcell
  obtain ⟨X', st⟩ := aaN0 X hexec hT' harr ht hknown hin hg hstack (by rw [hb]; exact hdg)
  have hlt : a < T.heap.size := (Array.getElem?_eq_some_iff.mp hT').1
  obtain ⟨t', a1, b1⟩ := kk _ (heapAt_setCell_self _ hlt) (by rw [size_setCell, hT]) (fun q hq => by rw [heapAt_setCell_ne _ (Ne.symm hq), hT]) (T.setCell a (cell.setSlot j.toNatClampNeg .null)) rfl X'
  exact ⟨t', st t' a1, b1⟩
end
section
variable {A : Type} {Γ : Gm} {own : String} {cc : ByteArray} {nL : Nat} {ret : Option FieldType} {d : Nat} {pc : Nat} {lv : List (Nat × Value)} {st : List Value} {h : CH} {ts : TS} {a i v x y : Int} {kd : Nat} {K : A → CH → Prop} {idx : Nat}
theorem Ok.cls (o : Ok Γ own cc nL ret d) {c : Nat} {r : vw_C} (hr : wcl[c]? = some r) : ClassAt (xS (mx Γ)) r.1 ((gD (mg Γ)).1 c) := (o.ht.2.1.1 _ _ hr).2
theorem asg_o (o : Ok Γ own cc nL ret d) {C : String} {c : Nat} {r : vw_C} (hkd : kd < 11) (hat : aty kd = .object C) (hr : wcl[c]? = some r) (hw : r.1 = C ∨ Cond.castable r.1 C ∈ lw_tbl) : asg Γ kd (100 + c) := by
  have hra := (o.ht.2.1.2 kd _ (wtys_at _ hkd)).2
  rw [hat] at hra
  obtain ⟨kA, comp, h1, h2, h3, h4⟩ := hra
  have hcl := o.cls hr
  obtain ⟨kcomp, hkc, -⟩ := Vm.findClass_spec h3
  have e : kcl (mg Γ) (100 + c) = (gD (mg Γ)).1 c := by
    unfold kcl
    rw [if_neg (by omega), show 100 + c - 100 = c by omega]
  obtain ⟨f1, kv, f2, f3⟩ := hcl
  refine ⟨kA, kcomp, comp, h1, by rw [hat]; exact h2, hkc, ⟨kv, by rw [e]; exact f2⟩, ?_⟩
  rw [e]
  rcases hw with hw | hw
  · rw [hw] at f1
    cases f1.symm.trans h3
    exact Vm.assignable_self _ _
  · obtain ⟨c', t', g1, g2, g3⟩ := Cond.castable_spec (o.w hw rfl)
    cases g1.symm.trans f1
    cases g2.symm.trans h3
    exact g3
theorem asg_a (o : Ok Γ own cc nL ret d) {t : FieldType} {q : Nat} (hkd : kd < 11) (hat : aty kd = .array t) (hq : q < 11) (hn : "[" ++ (aty q).toString = (FieldType.array t).toString) (hw : Cond.arrayOver (aty kd) ∈ lw_tbl) : asg Γ kd q := by
  rw [hat] at hw
  obtain ⟨comp, c, k, h1, h2, h3, h4, h5⟩ := arrayOverA_spec (o.w hw rfl)
  have hra := o.ra hkd
  rw [hat] at hra
  cases hra.symm.trans h5
  have hrq := o.ra hq
  rw [hn] at hrq
  cases hrq.symm.trans h1
  obtain ⟨kcomp, hkc, -⟩ := Vm.findClass_spec h1
  have e : kcl (mg Γ) q = gA (mg Γ) q := if_pos (by omega)
  exact ⟨k, kcomp, _, h3, by rw [hat]; exact h4, hkc, ⟨kcomp, by rw [e]; exact hkc⟩, by rw [e]; exact Vm.assignable_self _ _⟩
def asq (kd : Nat) (a i v : Int) : Mo CH Unit := fun h => if 0 < a ∧ a ≤ hn h ∧ hk h a = kd ∧ 0 ≤ i ∧ i < hl h a ∧ (v = 0 ∨ (0 < v ∧ v ≤ hn h ∧ hk h v ∈ alw kd)) then some ((), hset h a i v) else none
/-- the cell of a number and its class -/
theorem HR.cl {g : gC} {H : Heap} (hH : HR g (h, ts) H) (h0 : 0 < v) (h1 : v ≤ hn h) (hq : hk h v ≠ 99) : ∃ cell : Cell, H[gB g + v.toNat]? = some cell ∧ cell.vm = .none ∧ cell.cls = kcl g (hk h v) := by
  by_cases e : hk h v < 99
  · obtain ⟨c1, -⟩ := hH.ar h0 h1 rfl e
    exact ⟨_, c1, rfl, by unfold kcl; rw [if_pos e]; rfl⟩
  · obtain ⟨⟨cell, c1, c2, c3, -⟩, -⟩ := hH.ob h0 h1 (by show 100 ≤ hk h v; omega)
    exact ⟨cell, c1, c3, by rw [c2]; unfold kcl; rw [if_neg e]⟩
theorem s_aast (o : Ok Γ own cc nL ret d) (hkd : 5 ≤ kd ∧ kd < 11) (hasg : ∀ q ∈ alw kd, asg Γ kd q ∧ q ≠ 99) (hnu : (∃ C, aty kd = .object C) ∨ fits (aty kd) .null = true) (hi : R32 i) (hd : decode cc pc = .ok (.aastore, 1)) {m : Mo CH A}
    (kk : Sx Γ (fun h => (h, ts)) K (pc + 1) lv st m) : Sx Γ (fun h => (h, ts)) K pc lv (vA (mg Γ) v :: vI i :: vA (mg Γ) a :: st) (bnd (asq kd a i v) fun _ => m) := by
  intro h b h' e hK
  obtain ⟨r, e1, e2⟩ := bnd_some e
  unfold asq at e1
  split at e1
  · rename_i q
    obtain ⟨q1, q2, q3, q4, q5, q6⟩ := q
    cases e1
    intro H locs ls cells slots hH hlo hv1 hc hs
    obtain ⟨c1, c2, c3⟩ := hH.ar q1 q2 q3 (by omega)
    obtain ⟨p1, p2⟩ := ix_in q4 q5 hi
    have hrg : rg (aty kd) v := by
      have := aty_ref hkd
      cases hat : aty kd <;> rw [hat] at this <;> first | trivial | cases this
    have hen : enc (mg Γ) (aty kd) v = vA (mg Γ) v := by
      have := aty_ref hkd
      cases hat : aty kd <;> rw [hat] at this <;> first | rfl | cases this
    have fin : ∀ H1 : Heap, H1[gB (mg Γ) + a.toNat]? = some ((arrV (gA (mg Γ) kd) (hl h a) (fun j => enc (mg Γ) (aty kd) (hv h a j))).setSlot i.toNat (vA (mg Γ) v)) → H1.size = H.size → (∀ q, q ≠ gB (mg Γ) + a.toNat → H1[q]? = H[q]?) → W (xP (mx Γ)) (gL (mg Γ)) (xE (mx Γ)) (xR (mx Γ)) (xS (mx Γ)) (xM (mx Γ)) (xA (mx Γ)) (xB (mx Γ)) (xMe (mx Γ)) (xC (mx Γ)) H1 (locs ++ [⟨gB (mg Γ) + a.toNat, i.toNat⟩]) cells slots (MQx (mg Γ) (mr Γ) (xS (mx Γ)) (xB (mx Γ)) (mn Γ) (mz Γ) (mt Γ)) (F0 (xM (mx Γ)) (pc + 1) ls st) := by
      intro H1 f1 f2 f3
      refine kk _ b h' e2 hK H1 _ ls cells slots (hH.setA q1 q2 q3 (by omega) q4 hrg (fun _ => ?_) (by rw [hen]; exact f1) f2 f3) ?_ hv1 hc hs
      · rcases q6 with q6 | q6
        · exact Or.inl q6
        · exact Or.inr q6
      · intro q hq
        rcases List.mem_append.mp hq with hq | hq
        · exact hlo q hq
        · rw [List.mem_singleton.mp hq]; show gB (mg Γ) < gB (mg Γ) + a.toNat; omega
    rcases q6 with rfl | ⟨v0, v1, v2⟩
    · rcases hnu with ⟨C, hC⟩ | hne
      · have hz : vA (mg Γ) 0 = .null := rfl
        rw [hz, vA_pos q1]
        refine va_WaastN (C := C) o.hx o.hb c1 (by rw [← hC]; exact o.arr hkd.2 _ _) (fun q => by cases q) (by rw [arrV_size]; exact p1) rfl rfl hd (fun H1 f1 f2 f3 => ?_)
        rw [p2] at f1 ⊢
        exact fin H1 f1 f2 f3
      · have hz : vA (mg Γ) 0 = .null := rfl
        rw [hz, vA_pos q1]
        refine W_aaN (t := aty kd) o.hx o.hb c1 (o.arr hkd.2 _ _) hne (fun q => by cases q) (by rw [arrV_size]; exact p1) rfl rfl hd (fun H1 f1 f2 f3 => ?_)
        rw [p2] at f1 ⊢
        exact fin H1 f1 f2 f3
    · obtain ⟨⟨k, kcomp, comp, g1, g2, g3, ⟨kv, g4⟩, g5⟩, g6⟩ := hasg _ v2
      obtain ⟨cv, d1, d2, d3⟩ := hH.cl v0 v1 g6
      have hz : vA (mg Γ) v = .ref (gB (mg Γ) + v.toNat) := vA_pos v0
      rw [hz] at fin ⊢
      rw [vA_pos q1]
      refine W.aast o.hx o.hb (t := aty kd) c1 (fun q h => by cases h) (fun q => by cases q) g1 g2 (aty_ref hkd) g3 ⟨fun q => p1 (Or.inl q), by rw [arrV_size, p2]; show i.toNat < hl h a; omega⟩ d1 (fun q h => by rw [d2] at h; cases h) (by rw [d3]; exact g4) (by rw [d3]; exact g5) rfl rfl hd (fun H1 f1 f2 f3 => ?_)
      rw [p2] at f1 ⊢
      exact fin H1 f1 f2 f3
  · cases e1
/-- a cast that holds: the kinds S can be cast -/
def ckk (S : List Nat) (x : Int) : Mo CH Unit := fun h => if 0 < x ∧ x ≤ hn h ∧ hk h x ∈ S then some ((), h) else none
def cst (Γ : Gm) (q : Nat) (C : String) : Prop := q ≠ 99 ∧ ∃ t, (xS (mx Γ)).vm.findClass C = some t ∧ (xS (mx Γ)).vm.assignable (kcl (mg Γ) q) t = true
theorem cst_o (o : Ok Γ own cc nL ret d) {C : String} {c : Nat} {r : vw_C} (hr : wcl[c]? = some r) (hw : r.1 = C ∨ Cond.castable r.1 C ∈ lw_tbl) : cst Γ (100 + c) C := by
  obtain ⟨f1, kv, f2, f3⟩ := o.cls hr
  have e : kcl (mg Γ) (100 + c) = (gD (mg Γ)).1 c := by
    unfold kcl
    rw [if_neg (by omega), show 100 + c - 100 = c by omega]
  refine ⟨by omega, ?_⟩
  rw [e]
  rcases hw with hw | hw
  · exact ⟨_, by rw [← hw]; exact f1, Vm.assignable_self _ _⟩
  · obtain ⟨c', t', g1, g2, g3⟩ := Cond.castable_spec (o.w hw rfl)
    cases g1.symm.trans f1
    exact ⟨_, g2, g3⟩
theorem s_cast (o : Ok Γ own cc nL ret d) {C : String} {S : List Nat} (hS : ∀ q ∈ S, cst Γ q C) (hw : Cond.classLink own idx C ∈ lw_tbl) (hd : decode cc pc = .ok (.checkcast idx, 3)) {m : Mo CH A}
    (kk : Sx Γ (fun h => (h, ts)) K (pc + 3) lv (vA (mg Γ) x :: st) m) : Sx Γ (fun h => (h, ts)) K pc lv (vA (mg Γ) x :: st) (bnd (ckk S x) fun _ => m) := by
  intro h b h' e hK
  obtain ⟨r, e1, e2⟩ := bnd_some e
  unfold ckk at e1
  split at e1
  · rename_i q
    cases e1
    intro H locs ls cells slots hH hlo hv1 hc hs T hT X
    obtain ⟨g0, t, g1, g2⟩ := hS _ q.2.2
    obtain ⟨cv, d1, d2, d3⟩ := hH.cl q.1 q.2.1 g0
    have k1 := kk h b h' e2 hK H locs ls cells slots hH hlo hv1 hc hs
    rw [vA_pos q.1] at k1 ⊢
    obtain ⟨vm', X', st1⟩ := X.checkcastYes o.hx o.ho (o.w hw rfl) (by rw [hT]; exact d1) (by rw [d2]; rfl) g1 (by rw [d3]; exact g2) (g := F0 (xM (mx Γ)) pc ls (.ref (gB (mg Γ) + x.toNat) :: st)) rfl rfl (by rw [o.hb]; exact hd)
    obtain ⟨t, a1, b1⟩ := k1 (T.setVm vm') hT X'
    exact ⟨t, st1 t a1, b1⟩
  · cases e1
/-- is it of the class with the kind q0; the kinds S are those that may come -/
def ins (q0 : Nat) (S : List Nat) (x : Int) : Mo CH Int := fun h => if 0 < x ∧ x ≤ hn h ∧ hk h x ∈ S then some (if hk h x = q0 then 1 else 0, h) else none
def nct (Γ : Gm) (q : Nat) (C : String) : Prop := q ≠ 99 ∧ (∃ ks : Class, (xS (mx Γ)).vm.classes[kcl (mg Γ) q]? = some ks) ∧ ∃ t, (xS (mx Γ)).vm.findClass C = some t ∧ (xS (mx Γ)).vm.assignable (kcl (mg Γ) q) t = false
theorem nct_o (o : Ok Γ own cc nL ret d) {C : String} {c : Nat} {r : vw_C} (hr : wcl[c]? = some r) (hw : (r.1, C) ∈ ncs) : nct Γ (100 + c) C := by
  obtain ⟨f1, kv, f2, f3⟩ := o.cls hr
  have e : kcl (mg Γ) (100 + c) = (gD (mg Γ)).1 c := by
    unfold kcl
    rw [if_neg (by omega), show 100 + c - 100 = c by omega]
  refine ⟨by omega, ⟨kv, by rw [e]; exact f2⟩, ?_⟩
  rw [e]
  obtain ⟨c', t', g1, g2, g3⟩ := o.ht.2.2.1.2.1 _ hw
  have g1 : (xS (mx Γ)).vm.findClass r.1 = some c' := g1
  cases g1.symm.trans f1
  exact ⟨_, g2, g3⟩
theorem s_inst (o : Ok Γ own cc nL ret d) {C : String} {S : List Nat} {q0 : Nat} (hS : ∀ q ∈ S, (q = q0 → cst Γ q C) ∧ (q ≠ q0 → nct Γ q C)) (hw : Cond.classLink own idx C ∈ lw_tbl) (hd : decode cc pc = .ok (.instanceof idx, 3)) {m : Int → Mo CH A}
    (kk : ∀ v, rg .boolean v → Sx Γ (fun h => (h, ts)) K (pc + 3) lv (vI v :: st) (m v)) : Sx Γ (fun h => (h, ts)) K pc lv (vA (mg Γ) x :: st) (bnd (ins q0 S x) m) := by
  intro h b h' e hK
  obtain ⟨r, e1, e2⟩ := bnd_some e
  unfold ins at e1
  split at e1
  · rename_i q
    cases e1
    intro H locs ls cells slots hH hlo hv1 hc hs T hT X
    by_cases e : hk h x = q0
    · obtain ⟨g0, t, g1, g2⟩ := (hS _ q.2.2).1 e
      obtain ⟨cv, d1, d2, d3⟩ := hH.cl q.1 q.2.1 g0
      rw [if_pos e] at e2
      have k1 := kk 1 (Or.inr rfl) h b h' e2 hK H locs ls cells slots hH hlo hv1 hc hs
      rw [vA_pos q.1]
      obtain ⟨vm', X', st1⟩ := X.instanceofYes o.hx o.ho (o.w hw rfl) (by rw [hT]; exact d1) (by rw [d2]; rfl) g1 (by rw [d3]; exact g2) (g := F0 (xM (mx Γ)) pc ls (.ref (gB (mg Γ) + x.toNat) :: st)) rfl rfl (by rw [o.hb]; exact hd)
      obtain ⟨t, a1, b1⟩ := k1 (T.setVm vm') hT X'
      exact ⟨t, st1 t a1, b1⟩
    · obtain ⟨g0, ⟨ks, gk⟩, t, g1, g2⟩ := (hS _ q.2.2).2 e
      obtain ⟨cv, d1, d2, d3⟩ := hH.cl q.1 q.2.1 g0
      rw [if_neg e] at e2
      have k1 := kk 0 (Or.inl rfl) h b h' e2 hK H locs ls cells slots hH hlo hv1 hc hs
      rw [vA_pos q.1]
      obtain ⟨vm', X', st1⟩ := va_instofNo X o.hx o.ho (o.w hw rfl) (by rw [hT]; exact d1) (by rw [d2]; rfl) (by rw [d3]; exact gk) g1 (by rw [d3]; exact g2) (g := F0 (xM (mx Γ)) pc ls (.ref (gB (mg Γ) + x.toNat) :: st)) rfl rfl (by rw [o.hb]; exact hd)
      obtain ⟨t, a1, b1⟩ := k1 (T.setVm vm') hT X'
      exact ⟨t, st1 t a1, b1⟩
  · cases e1
def okr (x : Int) : Prop := 0 ≤ x ∨ x = -200
theorem rR_inj (o : Ok Γ own cc nL ret d) (hx : okr x) (hy : okr y) : rR (mg Γ) x = rR (mg Γ) y ↔ x = y := by
  refine ⟨fun e => ?_, fun e => by rw [e]⟩
  have hs := o.ht.2.2.1.2.2.1 200 (by decide)
  rcases hx with hx | rfl <;> rcases hy with hy | rfl
  · by_cases h1 : x = 0
    · subst h1
      rw [rR_none.mpr rfl] at e
      exact (rR_none.mp e.symm).symm
    · by_cases h2 : y = 0
      · subst h2
        rw [rR_none.mpr rfl] at e
        exact rR_none.mp e
      · rw [rR_pos (by omega), rR_pos (by omega)] at e
        have := Option.some.inj e
        omega
  · exfalso
    by_cases h1 : x = 0
    · subst h1
      rw [rR_none.mpr rfl] at e
      have := rR_none.mp e.symm
      omega
    · rw [rR_pos (by omega)] at e
      have := Option.some.inj (show some (gB (mg Γ) + x.toNat) = some (gS (mg Γ) 200) from e)
      omega
  · exfalso
    by_cases h1 : y = 0
    · subst h1
      rw [rR_none.mpr rfl] at e
      have := rR_none.mp e
      omega
    · rw [rR_pos (x := y) (by omega)] at e
      have := Option.some.inj (show some (gS (mg Γ) 200) = some (gB (mg Γ) + y.toNat) from e)
      omega
  · rfl
def ckr {σ A : Type} (x y : Int) (m : Mo σ A) : Mo σ A := fun s => if 0 ≤ x ∨ x = -200 then (if 0 ≤ y ∨ y = -200 then m s else none) else none
theorem ckr_some {σ A : Type} {x y : Int} {m : Mo σ A} {s : σ} {q : A × σ} (h : ckr x y m s = some q) : okr x ∧ okr y ∧ m s = some q := by
  unfold ckr at h
  split at h
  · split at h
    · rename_i a b
      exact ⟨a, b, h⟩
    · cases h
  · cases h
theorem s_acmp_eq (o : Ok Γ own cc nL ret d) {off : Int} {tgt : Nat} (hd : decode cc pc = .ok (.if_acmp .eq off, 3)) (ht : (pc : Int) + off = (tgt : Int)) {m1 m2 : Mo CH A} (kt : Sx Γ (fun h => (h, ts)) K tgt lv st m1) (kf : Sx Γ (fun h => (h, ts)) K (pc + 3) lv st m2) : Sx Γ (fun h => (h, ts)) K pc lv (vA (mg Γ) y :: vA (mg Γ) x :: st) (ckr x y (if x = y then m1 else m2)) := by
  intro h b h' e hK
  obtain ⟨q1, q2, e⟩ := ckr_some e
  intro H locs ls cells slots hH hlo hv1 hc hs
  exact lv_acmp_eq o.hx o.hb hd ht (fun q => kt h b h' (by rw [if_pos ((rR_inj o q1 q2).mp q)] at e; exact e) hK H locs ls cells slots hH hlo hv1 hc hs) (fun q => kf h b h' (by rw [if_neg (fun z => q ((rR_inj o q1 q2).mpr z))] at e; exact e) hK H locs ls cells slots hH hlo hv1 hc hs)
theorem s_acmp_ne (o : Ok Γ own cc nL ret d) {off : Int} {tgt : Nat} (hd : decode cc pc = .ok (.if_acmp .ne off, 3)) (ht : (pc : Int) + off = (tgt : Int)) {m1 m2 : Mo CH A} (kt : Sx Γ (fun h => (h, ts)) K tgt lv st m1) (kf : Sx Γ (fun h => (h, ts)) K (pc + 3) lv st m2) : Sx Γ (fun h => (h, ts)) K pc lv (vA (mg Γ) y :: vA (mg Γ) x :: st) (ckr x y (if ¬ x = y then m1 else m2)) := by
  intro h b h' e hK
  obtain ⟨q1, q2, e⟩ := ckr_some e
  intro H locs ls cells slots hH hlo hv1 hc hs
  exact lv_acmp_ne o.hx o.hb hd ht (fun q => kt h b h' (by rw [if_pos (fun z => q ((rR_inj o q1 q2).mpr z))] at e; exact e) hK H locs ls cells slots hH hlo hv1 hc hs) (fun q => kf h b h' (by rw [if_neg (fun z => z ((rR_inj o q1 q2).mp q))] at e; exact e) hK H locs ls cells slots hH hlo hv1 hc hs)
/-- Object's own beginning -/
theorem s_obj (o : Ok Γ own cc nL ret (d + 1)) (hw : Cond.methodLink own idx Lib.objectInit ∈ lw_tbl) (hx0 : 0 < x) {n : Nat} (hwt : wt st n) (hn8 : Nat.ble n 8 = true) (hd : decode cc pc = .ok (.invokespecial idx, 3)) (h1 : Cond.instanceMethod Lib.objectInit ∈ lw_tbl) (h2 : Cond.code Lib.objectInit ⟨#[0xb1]⟩ 1 none ∈ lw_tbl) {σ : Type} {wld : σ → Wd} {K : A → σ → Prop} {m : Mo σ A} (kk : Sx Γ wld K (pc + 3) lv st m) : Sx Γ wld K pc lv (vA (mg Γ) x :: st) m := by
  intro h b h' e hK H locs ls cells slots hH hlo hv1 hc hs
  rw [vA_pos hx0]
  have hRR := o.hR
  refine W.objInit o.hx o.hb o.ho (o.w hw rfl) (o.w h1 rfl) (o.w h2 rfl) rfl (by rw [o.hm, ← o.hL]; exact hv1.1) rfl hd (by rw [hRR]; show 1 ≤ d + 1; omega) ?_ (kk h b h' e hK H locs ls cells slots hH hlo hv1 hc hs)
  rw [hRR]
  have := lv_room (m := xM (mx Γ)) (pc := pc) (ls := ls) (rest := .ref (gB (mg Γ) + x.toNat) :: st) (Nat.le_trans hwt (Nat.le_of_ble_eq_true hn8))
  show _ + _ + 12 ≤ 46 * (d + 1) + 192
  omega
end
