/-! ROWS 8: stores with the kept locals listed -/
set_option maxRecDepth 100000
def kp (i : Nat) : List (Nat × Value) → Prop
  | [] => True
  | q :: t => q.1 ≠ i ∧ (q.1 + 1 = i → q.2.category = 1) ∧ kp i t
def kp2 (i : Nat) : List (Nat × Value) → Prop
  | [] => True
  | q :: t => q.1 ≠ i ∧ q.1 ≠ i + 1 ∧ (q.1 + 1 = i → q.2.category = 1) ∧ kp2 i t
theorem kp_mem {i : Nat} : ∀ {l : List (Nat × Value)}, kp i l → ∀ q ∈ l, q.1 ≠ i ∧ (q.1 + 1 = i → q.2.category = 1)
  | [], _, q, h => by cases h
  | a :: t, hk, q, h => by
    rcases List.mem_cons.mp h with rfl | h
    · exact ⟨hk.1, hk.2.1⟩
    · exact kp_mem hk.2.2 q h
theorem kp2_mem {i : Nat} : ∀ {l : List (Nat × Value)}, kp2 i l → ∀ q ∈ l, q.1 ≠ i ∧ q.1 ≠ i + 1 ∧ (q.1 + 1 = i → q.2.category = 1)
  | [], _, q, h => by cases h
  | a :: t, hk, q, h => by
    rcases List.mem_cons.mp h with rfl | h
    · exact ⟨hk.1, hk.2.1, hk.2.2.1⟩
    · exact kp2_mem hk.2.2.2 q h
theorem kp_has {ls : Array Slot} {nL i : Nat} {v : Value} {lv lv0 : List (Nat × Value)} (hs : ∀ q ∈ lv0, q ∈ lv) (hk : kp i lv0) (h : lv_has ls nL ((i, v) :: lv.filter (fun q => !(q.1 == i) && !(q.1 + 1 == i && q.2.category == 2)))) : lv_has ls nL ((i, v) :: lv0) := by
  refine ⟨h.1, h.2.1, fun q hq => h.2.2 q ?_⟩
  rcases List.mem_cons.mp hq with rfl | hq
  · exact List.mem_cons_self
  · refine List.mem_cons_of_mem _ (List.mem_filter.mpr ⟨hs q hq, ?_⟩)
    obtain ⟨h1, h2⟩ := kp_mem hk q hq
    have e1 : (q.1 == i) = false := by simpa using h1
    rw [e1]
    by_cases e : q.1 + 1 = i
    · simp [h2 e]
    · have e2 : (q.1 + 1 == i) = false := by simpa using e
      rw [e2]; rfl
theorem kp2_has {ls : Array Slot} {nL i : Nat} {v : Value} {lv lv0 : List (Nat × Value)} (hs : ∀ q ∈ lv0, q ∈ lv) (hk : kp2 i lv0) (h : lv_has ls nL ((i, v) :: lv.filter (fun q => !(q.1 == i) && (!(q.1 == i + 1) && !(q.1 + 1 == i && q.2.category == 2))))) : lv_has ls nL ((i, v) :: lv0) := by
  refine ⟨h.1, h.2.1, fun q hq => h.2.2 q ?_⟩
  rcases List.mem_cons.mp hq with rfl | hq
  · exact List.mem_cons_self
  · refine List.mem_cons_of_mem _ (List.mem_filter.mpr ⟨hs q hq, ?_⟩)
    obtain ⟨h1, h3, h2⟩ := kp2_mem hk q hq
    have e1 : (q.1 == i) = false := by simpa using h1
    have e3 : (q.1 == i + 1) = false := by simpa using h3
    rw [e1, e3]
    by_cases e : q.1 + 1 = i
    · simp [h2 e]
    · have e2 : (q.1 + 1 == i) = false := by simpa using e
      rw [e2]; rfl
theorem pick_mem {lv lv0 : List (Nat × Value)} {ks : List Nat} (hp : lv_pick lv ks = lv0) : ∀ q ∈ lv0, q ∈ lv := by
  intro q hq
  rw [← hp] at hq
  obtain ⟨k, -, hk⟩ := List.mem_filterMap.mp hq
  exact List.mem_of_getElem? hk
theorem la_0 {i : Nat} : lv_args i [] = [] := rfl
theorem la_I {i : Nat} {x : Int} {vs : List Value} : lv_args i (vI x :: vs) = (i, vI x) :: lv_args (i + 1) vs := rfl
theorem la_J {i : Nat} {x : Int} {vs : List Value} : lv_args i (vJ x :: vs) = (i, vJ x) :: lv_args (i + 2) vs := rfl
theorem la_A {i : Nat} {g : gC} {x : Int} {vs : List Value} : lv_args i (vA g x :: vs) = (i, vA g x) :: lv_args (i + 1) vs := by
  show (i, vA g x) :: lv_args (if (vA g x).category = 2 then i + 2 else i + 1) vs = _
  rw [vA_cat, if_neg (by decide)]
section
variable {σ A : Type} {Γ : Gm} {own : String} {cc : ByteArray} {nL : Nat} {ret : Option FieldType} {d : Nat} {pc : Nat} {lv : List (Nat × Value)} {st : List Value} {wld : σ → Wd} {K : A → σ → Prop} {m : Mo σ A}
theorem r_istore_n (o : Ok Γ own cc nL ret d) {q : Fin 4} {i : Nat} {x : Int} (hd : decode cc pc = .ok (.istore_n q, 1)) (hi : (q : Nat) = i) (hn : Nat.blt (i) nL = true) (hk : kp i lv) (k : Sx Γ wld K (pc + 1) ((i, vI x) :: lv) st m) : Sx Γ wld K pc lv (vI x :: st) m := by
  intro s a s1 h hK H locs ls cells slots hH hlo hv hc hs
  exact lv_istore_n o.hx o.hb hd hi hv (by rw [o.hL]; exact Nat.blt_eq.mp hn) rfl (fun ls1 h1 => k s a s1 h hK H locs ls1 cells slots hH hlo (kp_has (fun _ h => h) hk h1) hc hs)
theorem r_istore_nP (o : Ok Γ own cc nL ret d) {q : Fin 4} {i : Nat} {x : Int} (hd : decode cc pc = .ok (.istore_n q, 1)) (hi : (q : Nat) = i) (hn : Nat.blt (i) nL = true) (lv0 : List (Nat × Value)) (ks : List Nat) (hp : lv_pick lv ks = lv0) (hk : kp i lv0) (k : Sx Γ wld K (pc + 1) ((i, vI x) :: lv0) st m) : Sx Γ wld K pc lv (vI x :: st) m := by
  intro s a s1 h hK H locs ls cells slots hH hlo hv hc hs
  exact lv_istore_n o.hx o.hb hd hi hv (by rw [o.hL]; exact Nat.blt_eq.mp hn) rfl (fun ls1 h1 => k s a s1 h hK H locs ls1 cells slots hH hlo (kp_has (pick_mem hp) hk h1) hc hs)
theorem r_istore (o : Ok Γ own cc nL ret d) {i : Nat} {x : Int} (hd : decode cc pc = .ok (.istore i, 2)) (hn : Nat.blt (i) nL = true) (hk : kp i lv) (k : Sx Γ wld K (pc + 2) ((i, vI x) :: lv) st m) : Sx Γ wld K pc lv (vI x :: st) m := by
  intro s a s1 h hK H locs ls cells slots hH hlo hv hc hs
  exact lv_istore o.hx o.hb hd hv (by rw [o.hL]; exact Nat.blt_eq.mp hn) rfl (fun ls1 h1 => k s a s1 h hK H locs ls1 cells slots hH hlo (kp_has (fun _ h => h) hk h1) hc hs)
theorem r_istoreP (o : Ok Γ own cc nL ret d) {i : Nat} {x : Int} (hd : decode cc pc = .ok (.istore i, 2)) (hn : Nat.blt (i) nL = true) (lv0 : List (Nat × Value)) (ks : List Nat) (hp : lv_pick lv ks = lv0) (hk : kp i lv0) (k : Sx Γ wld K (pc + 2) ((i, vI x) :: lv0) st m) : Sx Γ wld K pc lv (vI x :: st) m := by
  intro s a s1 h hK H locs ls cells slots hH hlo hv hc hs
  exact lv_istore o.hx o.hb hd hv (by rw [o.hL]; exact Nat.blt_eq.mp hn) rfl (fun ls1 h1 => k s a s1 h hK H locs ls1 cells slots hH hlo (kp_has (pick_mem hp) hk h1) hc hs)
theorem r_lstore_n (o : Ok Γ own cc nL ret d) {q : Fin 4} {i : Nat} {x : Int} (hd : decode cc pc = .ok (.lstore_n q, 1)) (hi : (q : Nat) = i) (hn : Nat.blt (i + 1) nL = true) (hk : kp2 i lv) (k : Sx Γ wld K (pc + 1) ((i, vJ x) :: lv) st m) : Sx Γ wld K pc lv (vJ x :: st) m := by
  intro s a s1 h hK H locs ls cells slots hH hlo hv hc hs
  exact lv_lstore_n o.hx o.hb hd hi hv (by rw [o.hL]; exact Nat.blt_eq.mp hn) rfl (fun ls1 h1 => k s a s1 h hK H locs ls1 cells slots hH hlo (kp2_has (fun _ h => h) hk h1) hc hs)
theorem r_lstore_nP (o : Ok Γ own cc nL ret d) {q : Fin 4} {i : Nat} {x : Int} (hd : decode cc pc = .ok (.lstore_n q, 1)) (hi : (q : Nat) = i) (hn : Nat.blt (i + 1) nL = true) (lv0 : List (Nat × Value)) (ks : List Nat) (hp : lv_pick lv ks = lv0) (hk : kp2 i lv0) (k : Sx Γ wld K (pc + 1) ((i, vJ x) :: lv0) st m) : Sx Γ wld K pc lv (vJ x :: st) m := by
  intro s a s1 h hK H locs ls cells slots hH hlo hv hc hs
  exact lv_lstore_n o.hx o.hb hd hi hv (by rw [o.hL]; exact Nat.blt_eq.mp hn) rfl (fun ls1 h1 => k s a s1 h hK H locs ls1 cells slots hH hlo (kp2_has (pick_mem hp) hk h1) hc hs)
theorem r_lstore (o : Ok Γ own cc nL ret d) {i : Nat} {x : Int} (hd : decode cc pc = .ok (.lstore i, 2)) (hn : Nat.blt (i + 1) nL = true) (hk : kp2 i lv) (k : Sx Γ wld K (pc + 2) ((i, vJ x) :: lv) st m) : Sx Γ wld K pc lv (vJ x :: st) m := by
  intro s a s1 h hK H locs ls cells slots hH hlo hv hc hs
  exact lv_lstore o.hx o.hb hd hv (by rw [o.hL]; exact Nat.blt_eq.mp hn) rfl (fun ls1 h1 => k s a s1 h hK H locs ls1 cells slots hH hlo (kp2_has (fun _ h => h) hk h1) hc hs)
theorem r_lstoreP (o : Ok Γ own cc nL ret d) {i : Nat} {x : Int} (hd : decode cc pc = .ok (.lstore i, 2)) (hn : Nat.blt (i + 1) nL = true) (lv0 : List (Nat × Value)) (ks : List Nat) (hp : lv_pick lv ks = lv0) (hk : kp2 i lv0) (k : Sx Γ wld K (pc + 2) ((i, vJ x) :: lv0) st m) : Sx Γ wld K pc lv (vJ x :: st) m := by
  intro s a s1 h hK H locs ls cells slots hH hlo hv hc hs
  exact lv_lstore o.hx o.hb hd hv (by rw [o.hL]; exact Nat.blt_eq.mp hn) rfl (fun ls1 h1 => k s a s1 h hK H locs ls1 cells slots hH hlo (kp2_has (pick_mem hp) hk h1) hc hs)
theorem r_astore_n (o : Ok Γ own cc nL ret d) {q : Fin 4} {i : Nat} {x : Int} (hd : decode cc pc = .ok (.astore_n q, 1)) (hi : (q : Nat) = i) (hn : Nat.blt (i) nL = true) (hk : kp i lv) (k : Sx Γ wld K (pc + 1) ((i, vA (mg Γ) x) :: lv) st m) : Sx Γ wld K pc lv (vA (mg Γ) x :: st) m := by
  intro s a s1 h hK H locs ls cells slots hH hlo hv hc hs
  have hn' : i < mL Γ := by rw [o.hL]; exact Nat.blt_eq.mp hn
  have k1 := fun ls1 h1 => k s a s1 h hK H locs ls1 cells slots hH hlo (kp_has (fun _ h => h) hk h1) hc hs
  unfold vA at k1 ⊢
  cases hr : rR (mg Γ) x with
  | none => rw [hr] at k1; exact lv_astore_nN o.hx o.hb hd hi hv hn' rfl k1
  | some b => rw [hr] at k1; exact lv_astore_n o.hx o.hb hd hi hv hn' rfl k1
theorem r_astore_nP (o : Ok Γ own cc nL ret d) {q : Fin 4} {i : Nat} {x : Int} (hd : decode cc pc = .ok (.astore_n q, 1)) (hi : (q : Nat) = i) (hn : Nat.blt (i) nL = true) (lv0 : List (Nat × Value)) (ks : List Nat) (hp : lv_pick lv ks = lv0) (hk : kp i lv0) (k : Sx Γ wld K (pc + 1) ((i, vA (mg Γ) x) :: lv0) st m) : Sx Γ wld K pc lv (vA (mg Γ) x :: st) m := by
  intro s a s1 h hK H locs ls cells slots hH hlo hv hc hs
  have hn' : i < mL Γ := by rw [o.hL]; exact Nat.blt_eq.mp hn
  have k1 := fun ls1 h1 => k s a s1 h hK H locs ls1 cells slots hH hlo (kp_has (pick_mem hp) hk h1) hc hs
  unfold vA at k1 ⊢
  cases hr : rR (mg Γ) x with
  | none => rw [hr] at k1; exact lv_astore_nN o.hx o.hb hd hi hv hn' rfl k1
  | some b => rw [hr] at k1; exact lv_astore_n o.hx o.hb hd hi hv hn' rfl k1
theorem r_astore (o : Ok Γ own cc nL ret d) {i : Nat} {x : Int} (hd : decode cc pc = .ok (.astore i, 2)) (hn : Nat.blt (i) nL = true) (hk : kp i lv) (k : Sx Γ wld K (pc + 2) ((i, vA (mg Γ) x) :: lv) st m) : Sx Γ wld K pc lv (vA (mg Γ) x :: st) m := by
  intro s a s1 h hK H locs ls cells slots hH hlo hv hc hs
  have hn' : i < mL Γ := by rw [o.hL]; exact Nat.blt_eq.mp hn
  have k1 := fun ls1 h1 => k s a s1 h hK H locs ls1 cells slots hH hlo (kp_has (fun _ h => h) hk h1) hc hs
  unfold vA at k1 ⊢
  cases hr : rR (mg Γ) x with
  | none => rw [hr] at k1; exact lv_astoreN o.hx o.hb hd hv hn' rfl k1
  | some b => rw [hr] at k1; exact lv_astore o.hx o.hb hd hv hn' rfl k1
theorem r_astoreP (o : Ok Γ own cc nL ret d) {i : Nat} {x : Int} (hd : decode cc pc = .ok (.astore i, 2)) (hn : Nat.blt (i) nL = true) (lv0 : List (Nat × Value)) (ks : List Nat) (hp : lv_pick lv ks = lv0) (hk : kp i lv0) (k : Sx Γ wld K (pc + 2) ((i, vA (mg Γ) x) :: lv0) st m) : Sx Γ wld K pc lv (vA (mg Γ) x :: st) m := by
  intro s a s1 h hK H locs ls cells slots hH hlo hv hc hs
  have hn' : i < mL Γ := by rw [o.hL]; exact Nat.blt_eq.mp hn
  have k1 := fun ls1 h1 => k s a s1 h hK H locs ls1 cells slots hH hlo (kp_has (pick_mem hp) hk h1) hc hs
  unfold vA at k1 ⊢
  cases hr : rR (mg Γ) x with
  | none => rw [hr] at k1; exact lv_astoreN o.hx o.hb hd hv hn' rfl k1
  | some b => rw [hr] at k1; exact lv_astore o.hx o.hb hd hv hn' rfl k1
theorem r_iinc (o : Ok Γ own cc nL ret d) {i j : Nat} {n x : Int} (hd : decode cc pc = .ok (.iinc i n, 3)) (hj : lv[j]? = some (i, vI x)) (hn : Nat.blt i nL = true) (lv0 : List (Nat × Value)) (ks : List Nat) (hp : lv_pick lv ks = lv0) (hk : kp i lv0) (k : Sx Γ wld K (pc + 3) ((i, vI (w32 (x + n))) :: lv0) st m) : Sx Γ wld K pc lv st m := by
  intro s a s1 h hK H locs ls cells slots hH hlo hv hc hs
  have e : Int32.ofInt x + Int32.ofInt n = Int32.ofInt (w32 (x + n)) := by rw [of_w32, Int32.ofInt_add]
  exact lv_iinc o.hx o.hb hd hv hj e (by rw [o.hL]; exact Nat.blt_eq.mp hn) rfl (fun ls1 h1 => k s a s1 h hK H locs ls1 cells slots hH hlo (kp_has (pick_mem hp) hk h1) hc hs)
/-- to a label: the locals that live there, in its order -/
theorem r_to (lv0 : List (Nat × Value)) (ks : List Nat) (hp : lv_pick lv ks = lv0) (k : Sx Γ wld K pc lv0 st m) : Sx Γ wld K pc lv st m := by
  intro s a s1 h hK H locs ls cells slots hH hlo hv hc hs
  exact k s a s1 h hK H locs ls cells slots hH hlo (lv_sub hv ks hp) hc hs
/-- a number on the stack is the one that is named -/
theorem ishl_R (x y : Int) : R32 (ishl x y) := R32_to _
theorem ishr_R (x y : Int) : R32 (ishr x y) := R32_to _
theorem iand_R (x y : Int) : R32 (iand x y) := R32_to _
theorem ior_R (x y : Int) : R32 (ior x y) := R32_to _
theorem ixor_R (x y : Int) : R32 (ixor x y) := R32_to _
theorem idv_R (x y : Int) : R32 (idv x y) := R32_to _
theorem irm_R (x y : Int) : R32 (irm x y) := R32_to _
theorem lshl_R (x y : Int) : R64 (lshl x y) := R64_to _
theorem lshr_R (x y : Int) : R64 (lshr x y) := R64_to _
theorem land_R (x y : Int) : R64 (land x y) := R64_to _
theorem lor_R (x y : Int) : R64 (lor x y) := R64_to _
theorem lxor_R (x y : Int) : R64 (lxor x y) := R64_to _
theorem l2i_R (x : Int) : R32 (l2i x) := R32_to _
theorem i2c_R (x : Int) : rg .char (i2c x) := by
  unfold i2c
  rw [pk_char]
  have h := Nat.mod_lt (Int32.ofInt x).toBitVec.toNat (show 0 < 65536 by decide)
  rw [nI_toInt (by omega)]
  constructor <;> omega
theorem r32 {x : Int} (h : (decide (-2147483648 ≤ x) && decide (x ≤ 2147483647)) = true) : R32 x := by
  simp only [Bool.and_eq_true, decide_eq_true_eq] at h
  exact h
theorem r64 {x : Int} (h : (decide (-9223372036854775808 ≤ x) && decide (x ≤ 9223372036854775807)) = true) : R64 x := by
  simp only [Bool.and_eq_true, decide_eq_true_eq] at h
  exact h
end
