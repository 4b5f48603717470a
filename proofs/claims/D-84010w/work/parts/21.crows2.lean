/-! ROWS 11: fields and arrays with the stack named; receivers; calls that choose by the class; copies of arrays -/
set_option maxRecDepth 100000
def isk (q : Nat) (x : Int) : Mo CH Unit := fun h => if 0 < x ∧ x ≤ hn h ∧ hk h x = q then some ((), h) else none
section
variable {A : Type} {Γ : Gm} {own : String} {cc : ByteArray} {nL : Nat} {ret : Option FieldType} {d : Nat} {pc : Nat} {lv : List (Nat × Value)} {st : List Value} {h : CH} {ts : TS} {a i v x y : Int} {kd : Nat} {K : A → CH → Prop} {idx : Nat} {S : List Nat} {k : Nat} {O nm ds : String} {ty : FieldType} {fin : Bool} (V : Int → Value)
theorem r_getf (hV : enc (mg Γ) ty = V) (o : Ok Γ own cc nL ret d) (hf : fldOK S k O nm ds ty fin = true) (hw : lnk own idx O nm ds) (hd : decode cc pc = .ok (.getfield idx, 3)) {m : Int → Mo CH A}
    (kk : ∀ v, rg ty v → Sx Γ (fun h => (h, ts)) K (pc + 3) lv (V v :: st) (m v)) : Sx Γ (fun h => (h, ts)) K pc lv (vA (mg Γ) x :: st) (bnd (gf S k x) m) := by
  subst hV
  exact s_getf o hf hw hd kk
theorem r_putf (hV : enc (mg Γ) ty = V) (o : Ok Γ own cc nL ret d) (hf : fldOK S k O nm ds ty fin = true) (hw : lnk own idx O nm ds) (hd : decode cc pc = .ok (.putfield idx, 3)) (hfin : fin = false ∨ ((xMe (mx Γ)).name = "<init>" ∧ O = own ∧ Cond.fieldLink own idx O nm ds ∈ lw_tbl)) {v : Int} (hr : rg ty v) (hty : ty ≠ .float ∧ ty ≠ .double ∧ ty ≠ .short) {m : Mo CH A}
    (kk : Sx Γ (fun h => (h, ts)) K (pc + 3) lv st m) : Sx Γ (fun h => (h, ts)) K pc lv (V v :: vA (mg Γ) x :: st) (bnd (pf S k x v) fun _ => m) := by
  subst hV
  exact s_putf o hf hw hd hfin hr hty kk
theorem r_iald (o : Ok Γ own cc nL ret d) (hi : R32 i) (hd : decode cc pc = .ok (.iaload, 1)) {m : Int → Mo CH A} (kk : ∀ v, R32 v → Sx Γ (fun h => (h, ts)) K (pc + 1) lv (vI v :: st) (m v)) : Sx Γ (fun h => (h, ts)) K pc lv (vI i :: vA (mg Γ) a :: st) (bnd (ald 0 a i) m) := s_iaload o rfl hi hd kk
theorem r_lald (o : Ok Γ own cc nL ret d) (hi : R32 i) (hd : decode cc pc = .ok (.laload, 1)) {m : Int → Mo CH A} (kk : ∀ v, R64 v → Sx Γ (fun h => (h, ts)) K (pc + 1) lv (vJ v :: st) (m v)) : Sx Γ (fun h => (h, ts)) K pc lv (vI i :: vA (mg Γ) a :: st) (bnd (ald 1 a i) m) := s_laload o rfl hi hd kk
theorem r_cald (o : Ok Γ own cc nL ret d) (hi : R32 i) (hd : decode cc pc = .ok (.caload, 1)) {m : Int → Mo CH A} (kk : ∀ v, rg .char v → Sx Γ (fun h => (h, ts)) K (pc + 1) lv (vI v :: st) (m v)) : Sx Γ (fun h => (h, ts)) K pc lv (vI i :: vA (mg Γ) a :: st) (bnd (ald 2 a i) m) := s_caload o rfl hi hd kk
theorem r_zald (o : Ok Γ own cc nL ret d) (hi : R32 i) (hd : decode cc pc = .ok (.baload, 1)) {m : Int → Mo CH A} (kk : ∀ v, rg .boolean v → Sx Γ (fun h => (h, ts)) K (pc + 1) lv (vI v :: st) (m v)) : Sx Γ (fun h => (h, ts)) K pc lv (vI i :: vA (mg Γ) a :: st) (bnd (ald 3 a i) m) := s_zaload o rfl hi hd kk
theorem r_aald (o : Ok Γ own cc nL ret d) (hkd : 5 ≤ kd ∧ kd < 11) (hV : enc (mg Γ) (aty kd) = vA (mg Γ)) (hi : R32 i) (hd : decode cc pc = .ok (.aaload, 1)) {m : Int → Mo CH A} (kk : ∀ v, Sx Γ (fun h => (h, ts)) K (pc + 1) lv (vA (mg Γ) v :: st) (m v)) : Sx Γ (fun h => (h, ts)) K pc lv (vI i :: vA (mg Γ) a :: st) (bnd (ald kd a i) m) := s_aaload o hkd hi hd (fun v _ => by rw [hV]; exact kk v)
theorem r_iast (o : Ok Γ own cc nL ret d) (hi : R32 i) (hv0 : R32 v) (hd : decode cc pc = .ok (.iastore, 1)) {m : Mo CH A} (kk : Sx Γ (fun h => (h, ts)) K (pc + 1) lv st m) : Sx Γ (fun h => (h, ts)) K pc lv (vI v :: vI i :: vA (mg Γ) a :: st) (bnd (ast 0 a i v) fun _ => m) := s_iastore o hi hv0 hd kk
theorem r_last (o : Ok Γ own cc nL ret d) (hi : R32 i) (hv0 : R64 v) (hd : decode cc pc = .ok (.lastore, 1)) {m : Mo CH A} (kk : Sx Γ (fun h => (h, ts)) K (pc + 1) lv st m) : Sx Γ (fun h => (h, ts)) K pc lv (vJ v :: vI i :: vA (mg Γ) a :: st) (bnd (ast 1 a i v) fun _ => m) := s_lastore o hi hv0 hd kk
theorem r_cast (o : Ok Γ own cc nL ret d) (hi : R32 i) (hv0 : rg .char v) (hd : decode cc pc = .ok (.castore, 1)) {m : Mo CH A} (kk : Sx Γ (fun h => (h, ts)) K (pc + 1) lv st m) : Sx Γ (fun h => (h, ts)) K pc lv (vI v :: vI i :: vA (mg Γ) a :: st) (bnd (ast 2 a i v) fun _ => m) := s_castore o hi hv0 hd kk
theorem r_zast (o : Ok Γ own cc nL ret d) (hi : R32 i) (hv0 : rg .boolean v) (hd : decode cc pc = .ok (.bastore, 1)) {m : Mo CH A} (kk : Sx Γ (fun h => (h, ts)) K (pc + 1) lv st m) : Sx Γ (fun h => (h, ts)) K pc lv (vI v :: vI i :: vA (mg Γ) a :: st) (bnd (ast 3 a i v) fun _ => m) := s_zastore o hi hv0 hd kk
end
/-- a call that chooses by the receiver's class -/
def VR (g : gC) (ts : TS) (x0 : MethodName) (rt : Option FieldType) (na d : Nat) (x : Int) (As : List Value) (F : Mo CH Int) : Prop := ∀ h r h', F h = some (r, h') → ∃ (c : Nat) (r0 : vw_C) (y : MethodName) (bytes : ByteArray) (maxL : Nat), wcl[c]? = some r0 ∧ 0 < x ∧ x ≤ hn h ∧ hk h x = 100 + c ∧ Cond.selects r0.1 x0 y ∈ lw_tbl ∧ Cond.instanceMethod y ∈ lw_tbl ∧ MW y (Cond.code y bytes maxL rt) bytes maxL rt na ∧ Run g y (Cond.code y bytes maxL rt) rt d (vA g x :: As) (h, ts) (0, r, (h', ts))
section
variable {A : Type} {Γ : Gm} {own : String} {cc bytes : ByteArray} {nL maxL : Nat} {ret rt : Option FieldType} {d : Nat} {pc : Nat} {lv : List (Nat × Value)} {st stk As : List Value} {ts : TS} {K : A → CH → Prop} {F : Mo CH Int} {mk : Int → Mo CH A} {y x0 : MethodName} {hw : Cond} {idx n na : Nat} {x : Int} {owner : String} {rs : Int → List Value}
/-- a call of an object's own method -/
theorem s_cvC (o : Ok Γ own cc nL ret (d + 1)) (hF : SF (mg Γ) y hw rt d (vA (mg Γ) x :: As) (fun h => (h, ts)) F) (hm : MW y hw bytes maxL rt na) (hna : As.length = na) (hlk : (Cond.methodLink own idx y ∈ lw_tbl ∨ ∃ host, Cond.methodLinkNest own idx y host ∈ lw_tbl)) {c : Nat} {r0 : vw_C} (hr0 : wcl[c]? = some r0) (hsel : Cond.selects r0.1 y y ∈ lw_tbl) (hin : Cond.instanceMethod y ∈ lw_tbl) (hwt : wt st n) (hn8 : Nat.ble n 8 = true) (hd : decode cc pc = .ok (.invokevirtual idx, 3)) (hstk : As.reverse ++ vA (mg Γ) x :: st = stk) (hrs : ∀ r, (rt.map fun ty => enc (mg Γ) ty r).toList ++ st = rs r)
    (kk : ∀ r, (∀ ty, rt = some ty → rg ty r) → Sx Γ (fun h => (h, ts)) K (pc + 3) lv (rs r) (mk r)) : Sx Γ (fun h => (h, ts)) K pc lv stk (bnd (isk (100 + c) x) fun _ => bnd F mk) := by
  intro s a s' e hK
  obtain ⟨u, e0, e⟩ := bnd_some e
  unfold isk at e0
  split at e0
  · rename_i q
    cases e0
    obtain ⟨⟨r, s1⟩, e1, e2⟩ := bnd_some e
    obtain ⟨m1, m2, m3, m4, m5⟩ := hm
    rw [← hstk]
    exact e_cv o m1 (hF s r s1 e1) m2 m3 hlk hsel hin (rc_o o hr0 q.1 q.2.1 q.2.2) ⟨m4, by rw [hna]; exact m5⟩ hwt hn8 hd (fun hr => by rw [hrs]; exact kk r hr s1 a s' e2 hK)
  · cases e0
theorem s_cu (o : Ok Γ own cc nL ret (d + 1)) (hF : VR (mg Γ) ts x0 rt na d x As F) (hna : As.length = na) (hlk : Cond.methodLink own idx x0 ∈ lw_tbl) (hsm : Cond.sameMethod x0.cls owner x0.name x0.desc ∈ lw_tbl) (hdc : Cond.declares ⟨owner, x0.name, x0.desc⟩ ∈ lw_tbl ∨ ∃ b mL rt, Cond.instanceMethod ⟨owner, x0.name, x0.desc⟩ ∈ lw_tbl ∧ Cond.code ⟨owner, x0.name, x0.desc⟩ b mL rt ∈ lw_tbl) (how : owner ≠ "java/lang/invoke/MethodHandle" ∧ owner ≠ "java/lang/invoke/VarHandle") (hpd : (parseMethodDescriptor x0.desc).map (fun d => d.parameters.length) = some na) (hwt : wt st n) (hn8 : Nat.ble n 8 = true) (hd : decode cc pc = .ok (.invokevirtual idx, 3)) (hstk : As.reverse ++ vA (mg Γ) x :: st = stk) (hrs : ∀ r, (rt.map fun ty => enc (mg Γ) ty r).toList ++ st = rs r)
    (kk : ∀ r, (∀ ty, rt = some ty → rg ty r) → Sx Γ (fun h => (h, ts)) K (pc + 3) lv (rs r) (mk r)) : Sx Γ (fun h => (h, ts)) K pc lv stk (bnd F mk) := by
  intro s a s' e hK
  obtain ⟨⟨r, s1⟩, e1, e2⟩ := bnd_some e
  obtain ⟨c, r0, y, bytes, maxL, a1, a2, a3, a4, a5, a6, ⟨m1, m2, m3, m4, m5⟩, a8⟩ := hF s r s1 e1
  rw [← hstk]
  refine e_cu o m1 a8 m2 m3 hlk hsm ?_ how a5 a6 (rc_o o a1 a2 a3 a4) ⟨trivial, by rw [hna]; exact hpd⟩ hwt hn8 hd (fun hr => by rw [hrs]; exact kk r hr s1 a s' e2 hK)
  rcases hdc with hdc | ⟨b, mL, rt, h1, h2⟩
  · exact va_Decl.abs (o.ht.1 _ hdc rfl)
  · exact va_Decl.of (o.w h1 rfl) (o.w h2 rfl)
end
/-! copies of arrays -/
def hcpy (h : CH) (a sp b dp n : Int) : CH := (h.1, h.2.1, h.2.2.1, h.2.2.2.1, fun x i => if x = b ∧ dp ≤ i ∧ i < dp + n then h.2.2.2.2 a (sp + (i - dp)) else h.2.2.2.2 x i)
def acp (kd : Nat) (a sp b dp n : Int) : Mo CH Unit := fun h => if 0 < a ∧ a ≤ hn h ∧ hk h a = kd ∧ 0 < b ∧ b ≤ hn h ∧ hk h b = kd ∧ 0 ≤ sp ∧ 0 ≤ dp ∧ 0 ≤ n ∧ sp + n ≤ hl h a ∧ dp + n ≤ hl h b then some ((), hcpy h a sp b dp n) else none
section
variable {g : gC} {h : CH} {ts : TS} {H H1 : Heap} {a sp b dp n : Int}
theorem hcpy_ne {y : Int} (hy : y ≠ b) : hv (hcpy h a sp b dp n) y = hv h y := by
  funext j
  show (if y = b ∧ _ then _ else _) = _
  rw [if_neg (fun q => hy q.1)]
theorem HR.cpy (hH : HR g (h, ts) H) {kd : Nat} (hlt : kd < 11) (a0 : 0 < a) (a1 : a ≤ hn h) (ak : hk h a = kd) (h0 : 0 < b) (h1 : b ≤ hn h) (hq : hk h b = kd) (e : H1[gB g + b.toNat]? = some (arrV (gA g kd) (hl h b) (fun i => enc g (aty kd) (hv (hcpy h a sp b dp n) b i)))) (hs : H1.size = H.size) (ho : ∀ q, q ≠ gB g + b.toNat → H1[q]? = H[q]?) : HR g (hcpy h a sp b dp n, ts) H1 := by
  obtain ⟨ca, la, ra⟩ := hH.ar a0 a1 ak (by omega)
  obtain ⟨cb, lb, rb⟩ := hH.ar h0 h1 hq (by omega)
  refine hH.put (x := b) (w' := (hcpy h a sp b dp n, ts)) ?_ h0 rfl rfl hs ho (fun y y0 y1 hy H2 e2 q => ?_) (fun y y0 y1 hy q => ?_) ⟨?_, ?_⟩
  · intro y y0 y1 y2 y3 j
    show okEl h (hk h y) (if y = b ∧ dp ≤ j ∧ j < dp + n then hv h a (sp + (j - dp)) else hv h y j)
    split
    · rename_i q
      have y2 : 5 ≤ hk h y := y2
      have y3 : hk h y < 11 := y3
      rw [q.1, hq] at y2 y3 ⊢
      have := hH.2.2.1.2 a a0 a1 (by show 5 ≤ hk h a; omega) (by show hk h a < 11; omega) (sp + (j - dp))
      have this : okEl h (hk h a) (hv h a (sp + (j - dp))) := this
      rw [ak] at this
      exact this
    · exact hH.2.2.1.2 y y0 y1 y2 y3 j
  · have e1 : hv (hcpy h a sp b dp n) y = hv h y := hcpy_ne hy
    unfold cAt at q ⊢
    show (if hk h y = 99 then _ else if hk h y < 99 then H2[gB g + y.toNat]? = some (arrV (gA g (hk h y)) (hl h y) (fun i => enc g (aty (hk h y)) (hv (hcpy h a sp b dp n) y i))) else t_OB (gB g + y.toNat) ((gD g).1 (hk h y - 100)) (wN (hk h y - 100)) ((gD g).2 (hk h y - 100)) H2 (fun k => enc g (wty (hk h y - 100) k) (hv (hcpy h a sp b dp n) y k)))
    rw [e1]
    by_cases q1 : hk h y = 99
    · rw [if_pos q1] at q ⊢
      by_cases q2 : y = (t0 : Int)
      · rw [if_pos q2] at q ⊢
        exact q.kept e2
      · rw [if_neg q2] at q ⊢
        rw [e2]; exact q
    · rw [if_neg q1] at q ⊢
      by_cases q2 : hk h y < 99
      · rw [if_pos q2] at q ⊢
        rw [e2]; exact q
      · rw [if_neg q2] at q ⊢
        exact q.kept e2
  · have e1 : hv (hcpy h a sp b dp n) y = hv h y := hcpy_ne hy
    unfold cR at q ⊢
    show (if hk h y = 99 then _ else if hk h y < 99 then hl h y ≤ 2147483647 ∧ ∀ i' : Int, rg _ (hv (hcpy h a sp b dp n) y i') else ∀ k : Nat, k < _ → rg _ (hv (hcpy h a sp b dp n) y k))
    rw [e1]
    exact q
  · unfold cAt
    show (if hk h b = 99 then _ else if hk h b < 99 then H1[gB g + b.toNat]? = some (arrV (gA g (hk h b)) (hl h b) (fun i => enc g (aty (hk h b)) (hv (hcpy h a sp b dp n) b i))) else _)
    rw [hq, if_neg (by omega), if_pos (by omega)]
    exact e
  · unfold cR
    show (if hk h b = 99 then _ else if hk h b < 99 then hl h b ≤ 2147483647 ∧ ∀ i' : Int, rg (aty (hk h b)) (if b = b ∧ dp ≤ i' ∧ i' < dp + n then hv h a (sp + (i' - dp)) else hv h b i') else _)
    rw [hq, if_neg (by omega), if_pos (by omega)]
    refine ⟨lb, fun i' => ?_⟩
    split
    · exact ra _
    · exact rb _
end
