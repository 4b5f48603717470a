/-! ROWS 7: calls, for functions of the world -/
set_option maxRecDepth 100000
/-- what a called method's words say, all that doesn't depend on the place -/
def MW (y : MethodName) (hw : Cond) (bytes : ByteArray) (maxL : Nat) (rt : Option FieldType) (n : Nat) : Prop := hw = Cond.code y bytes maxL rt ∧ cdw hw y ∧ Nat.ble maxL 20 = true ∧ (y.cls ≠ "java/lang/invoke/MethodHandle" ∧ y.cls ≠ "java/lang/invoke/VarHandle") ∧ (parseMethodDescriptor y.desc).map (fun d => d.parameters.length) = some n
section
variable {σ A : Type} {Γ : Gm} {own : String} {cc bytes : ByteArray} {nL maxL : Nat} {ret rt : Option FieldType} {d : Nat} {pc : Nat} {lv : List (Nat × Value)} {st stk As : List Value} {wld : σ → Wd} {K : A → σ → Prop} {F : Mo σ Int} {mk : Int → Mo σ A} {y : MethodName} {hw : Cond} {idx n na : Nat} {x : Int} {C : String} {rs : Int → List Value}
theorem s_cs (o : Ok Γ own cc nL ret (d + 1)) (hF : SF (mg Γ) y hw rt d As wld F) (hm : MW y hw bytes maxL rt na) (hna : As.length = na) (hlk : (Cond.methodLink own idx y ∈ lw_tbl ∨ ∃ host, Cond.methodLinkNest own idx y host ∈ lw_tbl)) (hst : Cond.static y ∈ lw_tbl) (hwt : wt st n) (hn8 : Nat.ble n 8 = true) (hd : decode cc pc = .ok (.invokestatic idx, 3)) (hstk : As.reverse ++ st = stk) (hrs : ∀ r, (rt.map fun ty => enc (mg Γ) ty r).toList ++ st = rs r)
    (kk : ∀ r, (∀ ty, rt = some ty → rg ty r) → Sx Γ wld K (pc + 3) lv (rs r) (mk r)) : Sx Γ wld K pc lv stk (bnd F mk) := by
  intro s a s' e hK
  obtain ⟨⟨r, s1⟩, e1, e2⟩ := bnd_some e
  obtain ⟨m1, m2, m3, m4, m5⟩ := hm
  rw [← hstk]
  exact e_cs o m1 (hF s r s1 e1) m2 m3 hlk hst ⟨m4, by rw [hna]; exact m5⟩ hwt hn8 hd (fun hr => by rw [hrs]; exact kk r hr s1 a s' e2 hK)
theorem s_cv (o : Ok Γ own cc nL ret (d + 1)) (hF : SF (mg Γ) y hw rt d (vA (mg Γ) x :: As) wld F) (hm : MW y hw bytes maxL rt na) (hna : As.length = na) (hlk : (Cond.methodLink own idx y ∈ lw_tbl ∨ ∃ host, Cond.methodLinkNest own idx y host ∈ lw_tbl)) (hsel : Cond.selects C y y ∈ lw_tbl) (hin : Cond.instanceMethod y ∈ lw_tbl) (hrc : ∀ s, RC Γ (wld s) x C) (hwt : wt st n) (hn8 : Nat.ble n 8 = true) (hd : decode cc pc = .ok (.invokevirtual idx, 3)) (hstk : As.reverse ++ vA (mg Γ) x :: st = stk) (hrs : ∀ r, (rt.map fun ty => enc (mg Γ) ty r).toList ++ st = rs r)
    (kk : ∀ r, (∀ ty, rt = some ty → rg ty r) → Sx Γ wld K (pc + 3) lv (rs r) (mk r)) : Sx Γ wld K pc lv stk (bnd F mk) := by
  intro s a s' e hK
  obtain ⟨⟨r, s1⟩, e1, e2⟩ := bnd_some e
  obtain ⟨m1, m2, m3, m4, m5⟩ := hm
  rw [← hstk]
  exact e_cv o m1 (hF s r s1 e1) m2 m3 hlk hsel hin (hrc s) ⟨m4, by rw [hna]; exact m5⟩ hwt hn8 hd (fun hr => by rw [hrs]; exact kk r hr s1 a s' e2 hK)
theorem s_ci (o : Ok Γ own cc nL ret (d + 1)) (hF : SF (mg Γ) y hw none d (vA (mg Γ) x :: As) wld F) (hm : MW y hw bytes maxL none na) (hna : As.length = na) (hlk : (Cond.methodLink own idx y ∈ lw_tbl ∨ ∃ host, Cond.methodLinkNest own idx y host ∈ lw_tbl)) (hin : Cond.instanceMethod y ∈ lw_tbl) (hnm : y.name = "<init>") (hx0 : 0 < x) (hwt : wt st n) (hn8 : Nat.ble n 8 = true) (hd : decode cc pc = .ok (.invokespecial idx, 3)) (hstk : As.reverse ++ vA (mg Γ) x :: st = stk)
    (kk : ∀ r, Sx Γ wld K (pc + 3) lv st (mk r)) : Sx Γ wld K pc lv stk (bnd F mk) := by
  intro s a s' e hK
  obtain ⟨⟨r, s1⟩, e1, e2⟩ := bnd_some e
  obtain ⟨m1, m2, m3, m4, m5⟩ := hm
  rw [← hstk]
  exact e_ci o m1 (hF s r s1 e1) m2 m3 hlk hin hnm hx0 ⟨m4, by rw [hna]; exact m5⟩ hwt hn8 hd (fun _ => kk r s1 a s' e2 hK)
/-- the twin as a receiver -/
theorem rc_t (o : Ok Γ own cc nL ret d) {h : CH} (hT : HT h) (t : TS) : RC Γ (h, t) 21 "LazyForgeModel" := by
  refine ⟨_, vA_pos (by decide), fun H hH => ?_⟩
  obtain ⟨⟨cell, c1, c2, c3, c4⟩, -⟩ := hH.to hT
  have ar : wcl[11]? = some (RX11, TX11, 136) := rfl
  obtain ⟨-, hfc, -⟩ := o.ht.2.1.1 _ _ ar
  exact ⟨cell, c1, by rw [c3]; rfl, by rw [c2]; exact hfc⟩
/-- an object of one class as a receiver -/
theorem rc_o (o : Ok Γ own cc nL ret d) {h : CH} {ts : TS} {c : Nat} {r : vw_C} (hr : wcl[c]? = some r) (h0 : 0 < x) (h1 : x ≤ hn h) (hk1 : hk h x = 100 + c) : RC Γ (h, ts) x r.1 := by
  refine ⟨_, vA_pos h0, fun H hH => ?_⟩
  obtain ⟨⟨cell, c1, c2, c3, c4⟩, -⟩ := hH.ob h0 h1 (by show 100 ≤ hk h x; omega)
  obtain ⟨-, hfc, -⟩ := o.ht.2.1.1 _ _ hr
  refine ⟨cell, c1, by rw [c3]; rfl, ?_⟩
  rw [c2]
  show _ = some ((gD (mg Γ)).1 (hk h x - 100))
  rw [hk1, show 100 + c - 100 = c by omega]
  exact hfc
end
/-- a method's function out of its walk -/
theorem SF.of {σ : Type} {g : gC} {y : MethodName} {cc : ByteArray} {nL : Nat} {ret : Option FieldType} {d : Nat} {args : List Value} {wld : σ → Wd} {F : Mo σ Int} {lv : List (Nat × Value)} {n : Nat}
    (hy : plainFor y = true) (hwt : wt args n) (hnl : Nat.ble n nL = true) (hlv : lv_args 0 args = lv)
    (body : ∀ Γ : Gm, mg Γ = g → (xMe (mx Γ)).name = y.name → Ok Γ y.cls cc nL ret d → Sx Γ wld (fun a s => mt Γ = (0, a, wld s)) 0 lv [] F) : SF g y (Cond.code y cc nL ret) ret d args wld F := by
  intro s r s' e
  refine Run.of hy (Or.inl rfl) ?_ (fun Γ h1 h2 h3 h4 h5 o => ?_)
  · rw [lg_len]
    exact Nat.le_trans hwt (Nat.le_of_ble_eq_true hnl)
  · rw [hlv]
    exact body Γ h1 h5 o s r s' e h4
/-! the loads and stores of numbers, with what stands on the stack named -/
section
variable {A : Type} {Γ : Gm} {own : String} {cc : ByteArray} {nL : Nat} {ret : Option FieldType} {d : Nat} {pc : Nat} {lv : List (Nat × Value)} {st : List Value} {h : CH} {i v : Int} {k : Nat} {nm ds : String} {ty : FieldType} {idx : Nat} {K : A → TS → Prop} (V : Int → Value)
theorem r_tgf (hV : enc (mg Γ) ty = V) (o : Ok Γ own cc nL ret d) (hT : HT h) {fin : Bool} (hf : tfl k nm ds ty fin = true) (hj : (tj k == 0) = true) (hw : Cond.fieldLink own idx "LazyForgeModel" nm ds ∈ lw_tbl) (hd : decode cc pc = .ok (.getfield idx, 3)) {m : Int → Mo TS A}
    (kk : ∀ v, rg ty v → Sx Γ (fun t => (h, t)) K (pc + 3) lv (V v :: st) (m v)) : Sx Γ (fun t => (h, t)) K pc lv (vA (mg Γ) 21 :: st) (bnd (gs k) m) := by
  subst hV
  exact s_tgf o hT hf hj hw hd kk
theorem r_tpf (hV : enc (mg Γ) ty = V) (o : Ok Γ own cc nL ret d) (hT : HT h) (hf : tfl k nm ds ty false = true) (hj : (tj k == 0) = true) (hw : Cond.fieldLink own idx "LazyForgeModel" nm ds ∈ lw_tbl) (hd : decode cc pc = .ok (.putfield idx, 3)) (hr : rg ty v) (hty : ty ≠ .float ∧ ty ≠ .double ∧ ty ≠ .short) {m : Mo TS A}
    (kk : Sx Γ (fun t => (h, t)) K (pc + 3) lv st m) : Sx Γ (fun t => (h, t)) K pc lv (V v :: vA (mg Γ) 21 :: st) (bnd (ss k v) fun _ => m) := by
  subst hV
  exact s_tpf o hT hf hj hw hd hr hty kk
end
theorem ty_int : FieldType.int ≠ .float ∧ FieldType.int ≠ .double ∧ FieldType.int ≠ .short := ⟨(fun q => by cases q), (fun q => by cases q), (fun q => by cases q)⟩
theorem ty_long : FieldType.long ≠ .float ∧ FieldType.long ≠ .double ∧ FieldType.long ≠ .short := ⟨(fun q => by cases q), (fun q => by cases q), (fun q => by cases q)⟩
theorem ty_boolean : FieldType.boolean ≠ .float ∧ FieldType.boolean ≠ .double ∧ FieldType.boolean ≠ .short := ⟨(fun q => by cases q), (fun q => by cases q), (fun q => by cases q)⟩
theorem ty_char : FieldType.char ≠ .float ∧ FieldType.char ≠ .double ∧ FieldType.char ≠ .short := ⟨(fun q => by cases q), (fun q => by cases q), (fun q => by cases q)⟩
theorem ty_object (n : String) : FieldType.object n ≠ .float ∧ FieldType.object n ≠ .double ∧ FieldType.object n ≠ .short := ⟨(fun q => by cases q), (fun q => by cases q), (fun q => by cases q)⟩
theorem ty_array (n : FieldType) : FieldType.array n ≠ .float ∧ FieldType.array n ≠ .double ∧ FieldType.array n ≠ .short := ⟨(fun q => by cases q), (fun q => by cases q), (fun q => by cases q)⟩
theorem rZ {x : Int} (h : rg .boolean x) : R32 x := by rcases h with rfl | rfl <;> exact ⟨by decide, by decide⟩
theorem rC {x : Int} (h : rg .char x) : R32 x := ⟨by have := h.1; omega, by have := h.2; omega⟩
theorem rB {x : Int} (h : rg .byte x) : R32 x := ⟨by have := h.1; omega, by have := h.2; omega⟩
theorem rL {x : Int} (h : R32 x) : R64 x := ⟨by have := h.1; omega, by have := h.2; omega⟩
theorem rN {x : Int} (h : 0 ≤ x ∧ x ≤ 2147483647) : R32 x := ⟨by omega, h.2⟩
