/-! ROWS 19: the law's own rows: the script, calls of the wrappers -/
set_option maxRecDepth 100000
/-- the script: sl whole numbers at the old cell 250 -/
def SCR (Γ : Gm) (scr : Int → Int) (sl : Int) : Prop := (0 ≤ sl ∧ sl ≤ 192) ∧ (∀ i, R32 (scr i)) ∧ va_X (gS (mg Γ) 250) sl.toNat (fun j => Int32.ofInt (scr j)) (xS (mx Γ)) (gH (mg Γ)) ∧ gS (mg Γ) 250 ≤ gB (mg Γ)
def rdS {σ : Type} (scr : Int → Int) (sl i : Int) : Mo σ Int := fun s => if 0 ≤ i ∧ i < sl then some (scr i, s) else none
theorem SCR.len {Γ : Gm} {scr : Int → Int} {sl : Int} (h : SCR Γ scr sl) : R32 sl := ⟨by have := h.1.1; omega, by have := h.1.2; omega⟩
/-- what a called method with handlers says -/
def MWW (y : MethodName) (hw : Cond) (bytes : ByteArray) (maxL : Nat) (rt : Option FieldType) (hh : List (Nat × Nat × Nat × Nat)) (n : Nat) : Prop := hw = Cond.codeWith y bytes maxL rt hh ∧ cdw hw y ∧ Nat.ble maxL 20 = true ∧ (y.cls ≠ "java/lang/invoke/MethodHandle" ∧ y.cls ≠ "java/lang/invoke/VarHandle") ∧ (parseMethodDescriptor y.desc).map (fun d => d.parameters.length) = some n
theorem bnd_assoc {σ A B C : Type} (m : Mo σ A) (f : A → Mo σ B) (g : B → Mo σ C) : bnd (bnd m f) g = bnd m (fun a => bnd (f a) g) := by
  funext s
  unfold bnd
  cases m s with
  | none => rfl
  | some r => rfl
section
variable {σ A : Type} {Γ : Gm} {own : String} {cc bytes : ByteArray} {nL maxL : Nat} {ret rt : Option FieldType} {d : Nat} {pc : Nat} {lv : List (Nat × Value)} {st stk As : List Value} {wld : σ → Wd} {K : A → σ → Prop} {F : Mo σ Int} {mk : Int → Mo σ A} {y : MethodName} {hw : Cond} {idx n na : Nat} {rs : Int → List Value} {hh : List (Nat × Nat × Nat × Nat)} {scr : Int → Int} {sl i : Int}
theorem s_csW (o : Ok Γ own cc nL ret (d + 1)) (hF : SF (mg Γ) y hw rt d As wld F) (hm : MWW y hw bytes maxL rt hh na) (hna : As.length = na) (hlk : Cond.methodLink own idx y ∈ lw_tbl) (hst : Cond.static y ∈ lw_tbl) (hwt : wt st n) (hn8 : Nat.ble n 8 = true) (hd : decode cc pc = .ok (.invokestatic idx, 3)) (hstk : As.reverse ++ st = stk) (hrs : ∀ r, (rt.map fun ty => enc (mg Γ) ty r).toList ++ st = rs r)
    (kk : ∀ r, (∀ ty, rt = some ty → rg ty r) → Sx Γ wld K (pc + 3) lv (rs r) (mk r)) : Sx Γ wld K pc lv stk (bnd F mk) := by
  intro s a s' e hK
  obtain ⟨⟨r, s1⟩, e1, e2⟩ := bnd_some e
  obtain ⟨m1, m2, m3, m4, m5⟩ := hm
  rw [← hstk]
  exact e_csW o m1 (hF s r s1 e1) m2 m3 hlk hst ⟨m4, by rw [hna]; exact m5⟩ hwt hn8 hd (fun hr => by rw [hrs]; exact kk r hr s1 a s' e2 hK)
theorem s_sld (o : Ok Γ own cc nL ret d) (hS : SCR Γ scr sl) (hi : R32 i) (hd : decode cc pc = .ok (.iaload, 1)) (kk : ∀ v, R32 v → Sx Γ wld K (pc + 1) lv (vI v :: st) (mk v)) : Sx Γ wld K pc lv (vI i :: vA (mg Γ) (-250) :: st) (bnd (rdS scr sl i) mk) := by
  intro s a s' e hK
  obtain ⟨⟨r, s1⟩, e1, e2⟩ := bnd_some e
  unfold rdS at e1
  split at e1
  · rename_i q
    cases e1
    intro H locs ls cells slots hH hlo hv1 hc hs
    have k1 := kk (scr i) (hS.2.1 i) s a s' e2 hK H locs ls cells slots hH hlo hv1 hc hs
    obtain ⟨⟨l0, l1⟩, -, ⟨cl, h1, h2, h3, h4, h5⟩, h6⟩ := hS
    have hlt : i < ((sl.toNat : Nat) : Int) := by omega
    obtain ⟨p1, p2⟩ := ix_in q.1 hlt hi
    rw [vA_neg (by omega)]
    have h5' : cl.slots[i.toNat]? = some (Value.int (Int32.ofInt (scr ((i.toNat : Nat) : Int)))) := h5 i.toNat (by omega)
    rw [show ((i.toNat : Nat) : Int) = i by omega] at h5'
    exact W.iald (v := vI (scr i)) o.hx o.hb ((hH.2.1 _ h6).trans h1) h2 h3 (by rw [h4]; exact p1) (by rw [p2]; exact h5') rfl rfl hd k1
  · cases e1
theorem s_sln (o : Ok Γ own cc nL ret d) (hS : SCR Γ scr sl) (hd : decode cc pc = .ok (.arraylength, 1)) {m : Mo σ A} (kk : Sx Γ wld K (pc + 1) lv (vI sl :: st) m) : Sx Γ wld K pc lv (vA (mg Γ) (-250) :: st) m := by
  intro s a s' e hK H locs ls cells slots hH hlo hv1 hc hs
  have k1 := kk s a s' e hK H locs ls cells slots hH hlo hv1 hc hs
  obtain ⟨⟨l0, l1⟩, -, ⟨cl, h1, h2, h3, h4, h5⟩, h6⟩ := hS
  rw [vA_neg (by omega)]
  refine W.alen (n := Int32.ofInt sl) o.hx o.hb ((hH.2.1 _ h6).trans h1) h2 ?_ rfl rfl hd k1
  rw [h4]
  show Int32.ofInt ((sl.toNat : Nat) : Int) = Int32.ofInt sl
  rw [show ((sl.toNat : Nat) : Int) = sl by omega]
end
