/-! ROWS 1: the judgement Sx (a function of the world is what the code computes), stack, locals, numbers, branches, loops, ends -/
set_option maxRecDepth 100000
abbrev Mo (σ A : Type) : Type := σ → Option (A × σ)
def pr {σ A : Type} (a : A) : Mo σ A := fun s => some (a, s)
def bnd {σ A B : Type} (m : Mo σ A) (k : A → Mo σ B) : Mo σ B := fun s => match m s with
  | none => none
  | some q => k q.1 q.2
def Sx {σ A : Type} (Γ : Gm) (wld : σ → Wd) (K : A → σ → Prop) (pc : Nat) (lv : List (Nat × Value)) (st : List Value) (m : Mo σ A) : Prop :=
  ∀ s a s', m s = some (a, s') → K a s' → E Γ pc lv st (wld s)
theorem vA_cat (g : gC) (x : Int) : (vA g x).category = 1 := by
  unfold vA va_rf
  split <;> rfl
section
variable {Γ : Gm} {own : String} {cc : ByteArray} {nL : Nat} {ret : Option FieldType} {d : Nat} {pc : Nat} {lv lv' : List (Nat × Value)} {st : List Value} {w : Wd}

theorem e_iconst (o : Ok Γ own cc nL ret d) {n : Int} (hd : decode cc pc = .ok (.iconst n, 1)) (k : E Γ (pc + 1) lv (vI n :: st) w) : E Γ pc lv st w := by
  intro H locs ls cells slots hH hl hv hc hs
  exact lv_iconst o.hx o.hb hd rfl (k H locs ls cells slots hH hl hv hc hs)
theorem e_bipush (o : Ok Γ own cc nL ret d) {n : Int} (hd : decode cc pc = .ok (.bipush n, 2)) (hn : (decide (-128 ≤ n) && decide (n ≤ 127)) = true) (k : E Γ (pc + 2) lv (vI n :: st) w) : E Γ pc lv st w := by
  intro H locs ls cells slots hH hl hv hc hs
  simp only [Bool.and_eq_true, decide_eq_true_eq] at hn
  have e : (Int8.ofInt n).toInt32 = Int32.ofInt n := by
    apply Int32.toInt_inj.mp
    rw [Int8.toInt_toInt32, Int8.toInt_ofInt_of_le (by omega) (by omega), Int32.toInt_ofInt_of_le (by omega) (by omega)]
  exact lv_bipush o.hx o.hb hd e (k H locs ls cells slots hH hl hv hc hs)
theorem e_sipush (o : Ok Γ own cc nL ret d) {n : Int} (hd : decode cc pc = .ok (.sipush n, 3)) (hn : (decide (-32768 ≤ n) && decide (n ≤ 32767)) = true) (k : E Γ (pc + 3) lv (vI n :: st) w) : E Γ pc lv st w := by
  intro H locs ls cells slots hH hl hv hc hs
  simp only [Bool.and_eq_true, decide_eq_true_eq] at hn
  have e : (Int16.ofInt n).toInt32 = Int32.ofInt n := by
    apply Int32.toInt_inj.mp
    rw [Int16.toInt_toInt32, Int16.toInt_ofInt_of_le (by omega) (by omega), Int32.toInt_ofInt_of_le (by omega) (by omega)]
  exact lv_sipush o.hx o.hb hd e (k H locs ls cells slots hH hl hv hc hs)
theorem e_lconst (o : Ok Γ own cc nL ret d) {n : Fin 2} {x : Int} (hd : decode cc pc = .ok (.lconst n, 1)) (hx : Int64.ofNat (n : Nat) = Int64.ofInt x) (k : E Γ (pc + 1) lv (vJ x :: st) w) : E Γ pc lv st w := by
  intro H locs ls cells slots hH hl hv hc hs
  exact lv_lconst o.hx o.hb hd hx (k H locs ls cells slots hH hl hv hc hs)
theorem e_ldc (o : Ok Γ own cc nL ret d) {i : Nat} {v : Int32} {n : Int} (hd : decode cc pc = .ok (.ldc i, 2)) (hw : Cond.constant own i v ∈ lw_tbl) (hv0 : v = Int32.ofInt n) (k : E Γ (pc + 2) lv (vI n :: st) w) : E Γ pc lv st w := by
  intro H locs ls cells slots hH hl hv hc hs
  subst hv0
  exact lv_ldc o.hx o.hb o.ho (o.w hw rfl) hd (k H locs ls cells slots hH hl hv hc hs)
theorem e_ldcw (o : Ok Γ own cc nL ret d) {i : Nat} {v : Int32} {n : Int} (hd : decode cc pc = .ok (.ldc_w i, 3)) (hw : Cond.constant own i v ∈ lw_tbl) (hv0 : v = Int32.ofInt n) (k : E Γ (pc + 3) lv (vI n :: st) w) : E Γ pc lv st w := by
  intro H locs ls cells slots hH hl hv hc hs
  subst hv0
  exact lv_ldcw o.hx o.hb o.ho (o.w hw rfl) hd (k H locs ls cells slots hH hl hv hc hs)
theorem e_ldc2 (o : Ok Γ own cc nL ret d) {i : Nat} {v : Int64} {n : Int} (hd : decode cc pc = .ok (.ldc2_w i, 3)) (hw : Cond.constantLong own i v ∈ lw_tbl) (hv0 : v = Int64.ofInt n) (k : E Γ (pc + 3) lv (vJ n :: st) w) : E Γ pc lv st w := by
  intro H locs ls cells slots hH hl hv hc hs
  subst hv0
  exact lv_ldc2 o.hx o.hb o.ho (o.w hw rfl) hd (k H locs ls cells slots hH hl hv hc hs)
theorem e_null (o : Ok Γ own cc nL ret d) (hd : decode cc pc = .ok (.aconst_null, 1)) (k : E Γ (pc + 1) lv (vA (mg Γ) 0 :: st) w) : E Γ pc lv st w := by
  intro H locs ls cells slots hH hl hv hc hs
  exact lv_null o.hx o.hb hd (k H locs ls cells slots hH hl hv hc hs)
theorem e_iload_n (o : Ok Γ own cc nL ret d) {q : Fin 4} {i : Nat} {x : Int} (hd : decode cc pc = .ok (.iload_n q, 1)) (hi : (q : Nat) = i) (j : Nat) (hj : lv[j]? = some (i, vI x)) (k : E Γ (pc + 1) lv (vI x :: st) w) : E Γ pc lv st w := by
  intro H locs ls cells slots hH hl hv hc hs
  exact lv_iload_n o.hx o.hb hd hi (lv_at hv j hj) (k H locs ls cells slots hH hl hv hc hs)
theorem e_iload (o : Ok Γ own cc nL ret d) {i : Nat} {x : Int} (hd : decode cc pc = .ok (.iload i, 2)) (j : Nat) (hj : lv[j]? = some (i, vI x)) (k : E Γ (pc + 2) lv (vI x :: st) w) : E Γ pc lv st w := by
  intro H locs ls cells slots hH hl hv hc hs
  exact lv_iload o.hx o.hb hd (lv_at hv j hj) (k H locs ls cells slots hH hl hv hc hs)
theorem e_lload_n (o : Ok Γ own cc nL ret d) {q : Fin 4} {i : Nat} {x : Int} (hd : decode cc pc = .ok (.lload_n q, 1)) (hi : (q : Nat) = i) (j : Nat) (hj : lv[j]? = some (i, vJ x)) (k : E Γ (pc + 1) lv (vJ x :: st) w) : E Γ pc lv st w := by
  intro H locs ls cells slots hH hl hv hc hs
  exact lv_lload_n o.hx o.hb hd hi (lv_at hv j hj) (k H locs ls cells slots hH hl hv hc hs)
theorem e_lload (o : Ok Γ own cc nL ret d) {i : Nat} {x : Int} (hd : decode cc pc = .ok (.lload i, 2)) (j : Nat) (hj : lv[j]? = some (i, vJ x)) (k : E Γ (pc + 2) lv (vJ x :: st) w) : E Γ pc lv st w := by
  intro H locs ls cells slots hH hl hv hc hs
  exact lv_lload o.hx o.hb hd (lv_at hv j hj) (k H locs ls cells slots hH hl hv hc hs)
theorem e_aload_n (o : Ok Γ own cc nL ret d) {q : Fin 4} {i : Nat} {x : Int} (hd : decode cc pc = .ok (.aload_n q, 1)) (hi : (q : Nat) = i) (j : Nat) (hj : lv[j]? = some (i, vA (mg Γ) x)) (k : E Γ (pc + 1) lv (vA (mg Γ) x :: st) w) : E Γ pc lv st w := by
  intro H locs ls cells slots hH hl hv hc hs
  have h1 := lv_at hv j hj
  have k1 := k H locs ls cells slots hH hl hv hc hs
  unfold vA at h1 k1
  cases hr : rR (mg Γ) x with
  | none => rw [hr] at h1 k1; exact lv_aload_nN o.hx o.hb hd hi h1 k1
  | some a => rw [hr] at h1 k1; exact lv_aload_n o.hx o.hb hd hi h1 k1
theorem e_aload (o : Ok Γ own cc nL ret d) {i : Nat} {x : Int} (hd : decode cc pc = .ok (.aload i, 2)) (j : Nat) (hj : lv[j]? = some (i, vA (mg Γ) x)) (k : E Γ (pc + 2) lv (vA (mg Γ) x :: st) w) : E Γ pc lv st w := by
  intro H locs ls cells slots hH hl hv hc hs
  have h1 := lv_at hv j hj
  have k1 := k H locs ls cells slots hH hl hv hc hs
  unfold vA at h1 k1
  cases hr : rR (mg Γ) x with
  | none => rw [hr] at h1 k1; exact lv_aloadN o.hx o.hb hd h1 k1
  | some a => rw [hr] at h1 k1; exact lv_aload o.hx o.hb hd h1 k1
theorem e_istore_n (o : Ok Γ own cc nL ret d) {q : Fin 4} {i : Nat} {x : Int} (hd : decode cc pc = .ok (.istore_n q, 1)) (hi : (q : Nat) = i) (hn : Nat.blt (i) nL = true) (ks : List Nat) (hp : lv_pick ((i, vI x) :: lv.filter (fun q => !(q.1 == i) && !(q.1 + 1 == i && q.2.category == 2))) ks = lv') (k : E Γ (pc + 1) lv' st w) : E Γ pc lv (vI x :: st) w := by
  intro H locs ls cells slots hH hl hv hc hs
  exact lv_istore_n o.hx o.hb hd hi hv (by rw [o.hL]; exact Nat.blt_eq.mp hn) rfl (fun ls1 h1 => k H locs ls1 cells slots hH hl (lv_sub h1 ks hp) hc hs)
theorem e_istore (o : Ok Γ own cc nL ret d) {i : Nat} {x : Int} (hd : decode cc pc = .ok (.istore i, 2)) (hn : Nat.blt (i) nL = true) (ks : List Nat) (hp : lv_pick ((i, vI x) :: lv.filter (fun q => !(q.1 == i) && !(q.1 + 1 == i && q.2.category == 2))) ks = lv') (k : E Γ (pc + 2) lv' st w) : E Γ pc lv (vI x :: st) w := by
  intro H locs ls cells slots hH hl hv hc hs
  exact lv_istore o.hx o.hb hd hv (by rw [o.hL]; exact Nat.blt_eq.mp hn) rfl (fun ls1 h1 => k H locs ls1 cells slots hH hl (lv_sub h1 ks hp) hc hs)
theorem e_lstore_n (o : Ok Γ own cc nL ret d) {q : Fin 4} {i : Nat} {x : Int} (hd : decode cc pc = .ok (.lstore_n q, 1)) (hi : (q : Nat) = i) (hn : Nat.blt (i + 1) nL = true) (ks : List Nat) (hp : lv_pick ((i, vJ x) :: lv.filter (fun q => !(q.1 == i) && (!(q.1 == i + 1) && !(q.1 + 1 == i && q.2.category == 2)))) ks = lv') (k : E Γ (pc + 1) lv' st w) : E Γ pc lv (vJ x :: st) w := by
  intro H locs ls cells slots hH hl hv hc hs
  exact lv_lstore_n o.hx o.hb hd hi hv (by rw [o.hL]; exact Nat.blt_eq.mp hn) rfl (fun ls1 h1 => k H locs ls1 cells slots hH hl (lv_sub h1 ks hp) hc hs)
theorem e_lstore (o : Ok Γ own cc nL ret d) {i : Nat} {x : Int} (hd : decode cc pc = .ok (.lstore i, 2)) (hn : Nat.blt (i + 1) nL = true) (ks : List Nat) (hp : lv_pick ((i, vJ x) :: lv.filter (fun q => !(q.1 == i) && (!(q.1 == i + 1) && !(q.1 + 1 == i && q.2.category == 2)))) ks = lv') (k : E Γ (pc + 2) lv' st w) : E Γ pc lv (vJ x :: st) w := by
  intro H locs ls cells slots hH hl hv hc hs
  exact lv_lstore o.hx o.hb hd hv (by rw [o.hL]; exact Nat.blt_eq.mp hn) rfl (fun ls1 h1 => k H locs ls1 cells slots hH hl (lv_sub h1 ks hp) hc hs)
theorem e_astore_n (o : Ok Γ own cc nL ret d) {q : Fin 4} {i : Nat} {x : Int} (hd : decode cc pc = .ok (.astore_n q, 1)) (hi : (q : Nat) = i) (hn : Nat.blt i nL = true) (ks : List Nat) (hp : lv_pick ((i, vA (mg Γ) x) :: lv.filter (fun q => !(q.1 == i) && !(q.1 + 1 == i && q.2.category == 2))) ks = lv') (k : E Γ (pc + 1) lv' st w) : E Γ pc lv (vA (mg Γ) x :: st) w := by
  intro H locs ls cells slots hH hl hv hc hs
  have hn' : i < mL Γ := by rw [o.hL]; exact Nat.blt_eq.mp hn
  have k1 := fun ls1 h1 => k H locs ls1 cells slots hH hl (lv_sub h1 ks hp) hc hs
  unfold vA at k1 ⊢
  cases hr : rR (mg Γ) x with
  | none => rw [hr] at k1; exact lv_astore_nN o.hx o.hb hd hi hv hn' rfl k1
  | some a => rw [hr] at k1; exact lv_astore_n o.hx o.hb hd hi hv hn' rfl k1
theorem e_astore (o : Ok Γ own cc nL ret d) {i : Nat} {x : Int} (hd : decode cc pc = .ok (.astore i, 2)) (hn : Nat.blt i nL = true) (ks : List Nat) (hp : lv_pick ((i, vA (mg Γ) x) :: lv.filter (fun q => !(q.1 == i) && !(q.1 + 1 == i && q.2.category == 2))) ks = lv') (k : E Γ (pc + 2) lv' st w) : E Γ pc lv (vA (mg Γ) x :: st) w := by
  intro H locs ls cells slots hH hl hv hc hs
  have hn' : i < mL Γ := by rw [o.hL]; exact Nat.blt_eq.mp hn
  have k1 := fun ls1 h1 => k H locs ls1 cells slots hH hl (lv_sub h1 ks hp) hc hs
  unfold vA at k1 ⊢
  cases hr : rR (mg Γ) x with
  | none => rw [hr] at k1; exact lv_astoreN o.hx o.hb hd hv hn' rfl k1
  | some a => rw [hr] at k1; exact lv_astore o.hx o.hb hd hv hn' rfl k1
theorem e_iinc (o : Ok Γ own cc nL ret d) {i j : Nat} {n x : Int} (hd : decode cc pc = .ok (.iinc i n, 3)) (hj : lv[j]? = some (i, vI x)) (hn : Nat.blt i nL = true) (ks : List Nat) (hp : lv_pick ((i, vI (w32 (x + n))) :: lv.filter (fun q => !(q.1 == i) && !(q.1 + 1 == i && q.2.category == 2))) ks = lv') (k : E Γ (pc + 3) lv' st w) : E Γ pc lv st w := by
  intro H locs ls cells slots hH hl hv hc hs
  have e : Int32.ofInt x + Int32.ofInt n = Int32.ofInt (w32 (x + n)) := by rw [of_w32, Int32.ofInt_add]
  exact lv_iinc o.hx o.hb hd hv hj e (by rw [o.hL]; exact Nat.blt_eq.mp hn) rfl (fun ls1 h1 => k H locs ls1 cells slots hH hl (lv_sub h1 ks hp) hc hs)
theorem e_iadd (o : Ok Γ own cc nL ret d) {x y : Int} (hd : decode cc pc = .ok (.iadd, 1)) (k : E Γ (pc + 1) lv (vI (w32 (x + y)) :: st) w) : E Γ pc lv (vI y :: vI x :: st) w := by
  intro H locs ls cells slots hH hl hv hc hs
  have k1 := k H locs ls cells slots hH hl hv hc hs
  unfold vI at k1 ⊢
  rw [of_w32, Int32.ofInt_add] at k1
  exact lv_iadd o.hx o.hb hd k1
theorem e_isub (o : Ok Γ own cc nL ret d) {x y : Int} (hd : decode cc pc = .ok (.isub, 1)) (k : E Γ (pc + 1) lv (vI (w32 (x - y)) :: st) w) : E Γ pc lv (vI y :: vI x :: st) w := by
  intro H locs ls cells slots hH hl hv hc hs
  have k1 := k H locs ls cells slots hH hl hv hc hs
  unfold vI at k1 ⊢
  rw [of_w32, Int32.ofInt_sub] at k1
  exact lv_isub o.hx o.hb hd k1
theorem e_imul (o : Ok Γ own cc nL ret d) {x y : Int} (hd : decode cc pc = .ok (.imul, 1)) (k : E Γ (pc + 1) lv (vI (w32 (x * y)) :: st) w) : E Γ pc lv (vI y :: vI x :: st) w := by
  intro H locs ls cells slots hH hl hv hc hs
  have k1 := k H locs ls cells slots hH hl hv hc hs
  unfold vI at k1 ⊢
  rw [of_w32, Int32.ofInt_mul] at k1
  exact lv_imul o.hx o.hb hd k1
theorem e_ladd (o : Ok Γ own cc nL ret d) {x y : Int} (hd : decode cc pc = .ok (.ladd, 1)) (k : E Γ (pc + 1) lv (vJ (w64 (x + y)) :: st) w) : E Γ pc lv (vJ y :: vJ x :: st) w := by
  intro H locs ls cells slots hH hl hv hc hs
  have k1 := k H locs ls cells slots hH hl hv hc hs
  unfold vJ at k1 ⊢
  rw [of_w64, Int64.ofInt_add] at k1
  exact lv_ladd o.hx o.hb hd k1
theorem e_lsub (o : Ok Γ own cc nL ret d) {x y : Int} (hd : decode cc pc = .ok (.lsub, 1)) (k : E Γ (pc + 1) lv (vJ (w64 (x - y)) :: st) w) : E Γ pc lv (vJ y :: vJ x :: st) w := by
  intro H locs ls cells slots hH hl hv hc hs
  have k1 := k H locs ls cells slots hH hl hv hc hs
  unfold vJ at k1 ⊢
  rw [of_w64, Int64.ofInt_sub] at k1
  exact lv_lsub o.hx o.hb hd k1
theorem e_lmul (o : Ok Γ own cc nL ret d) {x y : Int} (hd : decode cc pc = .ok (.lmul, 1)) (k : E Γ (pc + 1) lv (vJ (w64 (x * y)) :: st) w) : E Γ pc lv (vJ y :: vJ x :: st) w := by
  intro H locs ls cells slots hH hl hv hc hs
  have k1 := k H locs ls cells slots hH hl hv hc hs
  unfold vJ at k1 ⊢
  rw [of_w64, Int64.ofInt_mul] at k1
  exact lv_lmul o.hx o.hb hd k1
theorem e_ishl (o : Ok Γ own cc nL ret d) {x y : Int} (hd : decode cc pc = .ok (.ishl, 1)) (k : E Γ (pc + 1) lv (vI (ishl x y) :: st) w) : E Γ pc lv (vI y :: vI x :: st) w := by
  intro H locs ls cells slots hH hl hv hc hs
  have k1 := k H locs ls cells slots hH hl hv hc hs
  unfold vI ishl at k1
  rw [Int32.ofInt_toInt] at k1
  exact lv_ishl o.hx o.hb hd k1
theorem e_ishr (o : Ok Γ own cc nL ret d) {x y : Int} (hd : decode cc pc = .ok (.ishr, 1)) (k : E Γ (pc + 1) lv (vI (ishr x y) :: st) w) : E Γ pc lv (vI y :: vI x :: st) w := by
  intro H locs ls cells slots hH hl hv hc hs
  have k1 := k H locs ls cells slots hH hl hv hc hs
  unfold vI ishr at k1
  rw [Int32.ofInt_toInt] at k1
  exact lv_ishr o.hx o.hb hd k1
theorem e_iand (o : Ok Γ own cc nL ret d) {x y : Int} (hd : decode cc pc = .ok (.iand, 1)) (k : E Γ (pc + 1) lv (vI (iand x y) :: st) w) : E Γ pc lv (vI y :: vI x :: st) w := by
  intro H locs ls cells slots hH hl hv hc hs
  have k1 := k H locs ls cells slots hH hl hv hc hs
  unfold vI iand at k1
  rw [Int32.ofInt_toInt] at k1
  exact lv_iand o.hx o.hb hd k1
theorem e_ior (o : Ok Γ own cc nL ret d) {x y : Int} (hd : decode cc pc = .ok (.ior, 1)) (k : E Γ (pc + 1) lv (vI (ior x y) :: st) w) : E Γ pc lv (vI y :: vI x :: st) w := by
  intro H locs ls cells slots hH hl hv hc hs
  have k1 := k H locs ls cells slots hH hl hv hc hs
  unfold vI ior at k1
  rw [Int32.ofInt_toInt] at k1
  exact lv_ior o.hx o.hb hd k1
theorem e_ixor (o : Ok Γ own cc nL ret d) {x y : Int} (hd : decode cc pc = .ok (.ixor, 1)) (k : E Γ (pc + 1) lv (vI (ixor x y) :: st) w) : E Γ pc lv (vI y :: vI x :: st) w := by
  intro H locs ls cells slots hH hl hv hc hs
  have k1 := k H locs ls cells slots hH hl hv hc hs
  unfold vI ixor at k1
  rw [Int32.ofInt_toInt] at k1
  exact lv_ixor o.hx o.hb hd k1
theorem e_land (o : Ok Γ own cc nL ret d) {x y : Int} (hd : decode cc pc = .ok (.land, 1)) (k : E Γ (pc + 1) lv (vJ (land x y) :: st) w) : E Γ pc lv (vJ y :: vJ x :: st) w := by
  intro H locs ls cells slots hH hl hv hc hs
  have k1 := k H locs ls cells slots hH hl hv hc hs
  unfold vJ land at k1
  rw [Int64.ofInt_toInt] at k1
  exact lv_land o.hx o.hb hd k1
theorem e_lor (o : Ok Γ own cc nL ret d) {x y : Int} (hd : decode cc pc = .ok (.lor, 1)) (k : E Γ (pc + 1) lv (vJ (lor x y) :: st) w) : E Γ pc lv (vJ y :: vJ x :: st) w := by
  intro H locs ls cells slots hH hl hv hc hs
  have k1 := k H locs ls cells slots hH hl hv hc hs
  unfold vJ lor at k1
  rw [Int64.ofInt_toInt] at k1
  exact lv_lor o.hx o.hb hd k1
theorem e_lxor (o : Ok Γ own cc nL ret d) {x y : Int} (hd : decode cc pc = .ok (.lxor, 1)) (k : E Γ (pc + 1) lv (vJ (lxor x y) :: st) w) : E Γ pc lv (vJ y :: vJ x :: st) w := by
  intro H locs ls cells slots hH hl hv hc hs
  have k1 := k H locs ls cells slots hH hl hv hc hs
  unfold vJ lxor at k1
  rw [Int64.ofInt_toInt] at k1
  exact lv_lxor o.hx o.hb hd k1
theorem e_lshl (o : Ok Γ own cc nL ret d) {x y : Int} (hd : decode cc pc = .ok (.lshl, 1)) (k : E Γ (pc + 1) lv (vJ (lshl x y) :: st) w) : E Γ pc lv (vI y :: vJ x :: st) w := by
  intro H locs ls cells slots hH hl hv hc hs
  have k1 := k H locs ls cells slots hH hl hv hc hs
  unfold vJ lshl at k1
  rw [Int64.ofInt_toInt] at k1
  exact lv_lshl o.hx o.hb hd rfl k1
theorem e_lshr (o : Ok Γ own cc nL ret d) {x y : Int} (hd : decode cc pc = .ok (.lshr, 1)) (k : E Γ (pc + 1) lv (vJ (lshr x y) :: st) w) : E Γ pc lv (vI y :: vJ x :: st) w := by
  intro H locs ls cells slots hH hl hv hc hs
  have k1 := k H locs ls cells slots hH hl hv hc hs
  unfold vJ lshr at k1
  rw [Int64.ofInt_toInt] at k1
  exact lv_lshr o.hx o.hb hd rfl k1
theorem e_idiv (o : Ok Γ own cc nL ret d) {x y : Int} (hd : decode cc pc = .ok (.idiv, 1)) (hy : R32 y) (h0 : y ≠ 0) (k : E Γ (pc + 1) lv (vI (idv x y) :: st) w) : E Γ pc lv (vI y :: vI x :: st) w := by
  intro H locs ls cells slots hH hl hv hc hs
  have k1 := k H locs ls cells slots hH hl hv hc hs
  unfold vI idv at k1
  rw [Int32.ofInt_toInt] at k1
  exact lv_idiv o.hx o.hb hd (fun q => h0 ((cI_eq hy ⟨by decide, by decide⟩).mp q)) k1
theorem e_irem (o : Ok Γ own cc nL ret d) {x y : Int} (hd : decode cc pc = .ok (.irem, 1)) (hy : R32 y) (h0 : y ≠ 0) (k : E Γ (pc + 1) lv (vI (irm x y) :: st) w) : E Γ pc lv (vI y :: vI x :: st) w := by
  intro H locs ls cells slots hH hl hv hc hs
  have k1 := k H locs ls cells slots hH hl hv hc hs
  unfold vI irm at k1
  rw [Int32.ofInt_toInt] at k1
  exact lv_irem o.hx o.hb hd (fun q => h0 ((cI_eq hy ⟨by decide, by decide⟩).mp q)) k1
theorem e_ineg (o : Ok Γ own cc nL ret d) {x : Int} (hd : decode cc pc = .ok (.ineg, 1)) (k : E Γ (pc + 1) lv (vI (w32 (-x)) :: st) w) : E Γ pc lv (vI x :: st) w := by
  intro H locs ls cells slots hH hl hv hc hs
  have k1 := k H locs ls cells slots hH hl hv hc hs
  unfold vI at k1 ⊢
  rw [of_w32, Int32.ofInt_neg] at k1
  exact lv_ineg o.hx o.hb hd k1
theorem e_i2l (o : Ok Γ own cc nL ret d) {x : Int} (hd : decode cc pc = .ok (.i2l, 1)) (hx : R32 x) (k : E Γ (pc + 1) lv (vJ x :: st) w) : E Γ pc lv (vI x :: st) w := by
  intro H locs ls cells slots hH hl hv hc hs
  have e : (Int32.ofInt x).toInt64 = Int64.ofInt x := by
    apply Int64.toInt_inj.mp
    have e1 := w32_eq hx
    have e2 := w64_eq (x := x) ⟨by have := hx.1; omega, by have := hx.2; omega⟩
    unfold w32 at e1
    unfold w64 at e2
    rw [Int32.toInt_toInt64, e1, e2]
  exact lv_i2l o.hx o.hb hd e (k H locs ls cells slots hH hl hv hc hs)
theorem e_l2i (o : Ok Γ own cc nL ret d) {x : Int} (hd : decode cc pc = .ok (.l2i, 1)) (k : E Γ (pc + 1) lv (vI (l2i x) :: st) w) : E Γ pc lv (vJ x :: st) w := by
  intro H locs ls cells slots hH hl hv hc hs
  have k1 := k H locs ls cells slots hH hl hv hc hs
  unfold vI l2i at k1
  rw [Int32.ofInt_toInt] at k1
  exact lv_l2i o.hx o.hb hd rfl k1
theorem e_i2c (o : Ok Γ own cc nL ret d) {x : Int} (hd : decode cc pc = .ok (.i2c, 1)) (k : E Γ (pc + 1) lv (vI (i2c x) :: st) w) : E Γ pc lv (vI x :: st) w := by
  intro H locs ls cells slots hH hl hv hc hs
  have k1 := k H locs ls cells slots hH hl hv hc hs
  unfold vI i2c at k1
  rw [Int32.ofInt_toInt] at k1
  exact lv_i2c o.hx o.hb hd rfl k1
theorem e_dup (o : Ok Γ own cc nL ret d) {v : Value} (hd : decode cc pc = .ok (.dup, 1)) (hc1 : v.category = 1) (k : E Γ (pc + 1) lv (v :: v :: st) w) : E Γ pc lv (v :: st) w := by
  intro H locs ls cells slots hH hl hv hc hs
  exact lv_dup o.hx o.hb hd hc1 (k H locs ls cells slots hH hl hv hc hs)
theorem e_dup_x1 (o : Ok Γ own cc nL ret d) {v u : Value} (hd : decode cc pc = .ok (.dup_x1, 1)) (hc1 : v.category = 1) (hc2 : u.category = 1) (k : E Γ (pc + 1) lv (v :: u :: v :: st) w) : E Γ pc lv (v :: u :: st) w := by
  intro H locs ls cells slots hH hl hv hc hs
  exact lv_dup_x1 o.hx o.hb hd hc1 hc2 (k H locs ls cells slots hH hl hv hc hs)
theorem e_dup2 (o : Ok Γ own cc nL ret d) {v u : Value} (hd : decode cc pc = .ok (.dup2, 1)) (hc1 : v.category = 1) (hc2 : u.category = 1) (k : E Γ (pc + 1) lv (v :: u :: v :: u :: st) w) : E Γ pc lv (v :: u :: st) w := by
  intro H locs ls cells slots hH hl hv hc hs
  exact lv_dup2_11 o.hx o.hb hd hc1 hc2 (k H locs ls cells slots hH hl hv hc hs)
theorem e_pop (o : Ok Γ own cc nL ret d) {v : Value} (hd : decode cc pc = .ok (.pop, 1)) (hc1 : v.category = 1) (k : E Γ (pc + 1) lv st w) : E Γ pc lv (v :: st) w := by
  intro H locs ls cells slots hH hl hv hc hs
  exact lv_pop o.hx o.hb hd hc1 (k H locs ls cells slots hH hl hv hc hs)
theorem e_goto (o : Ok Γ own cc nL ret d) {off : Int} {tgt : Nat} (hd : decode cc pc = .ok (.goto off, 3)) (ht : (pc : Int) + off = (tgt : Int)) (k : E Γ tgt lv st w) : E Γ pc lv st w := by
  intro H locs ls cells slots hH hl hv hc hs
  exact lv_goto o.hx o.hb hd ht (k H locs ls cells slots hH hl hv hc hs)
theorem e_sub (o : Ok Γ own cc nL ret d) (ks : List Nat) (hp : lv_pick lv ks = lv') (k : E Γ pc lv' st w) : E Γ pc lv st w := by
  intro H locs ls cells slots hH hl hv hc hs
  exact k H locs ls cells slots hH hl (lv_sub hv ks hp) hc hs
theorem e_if_eq (o : Ok Γ own cc nL ret d) {x : Int} {off : Int} {tgt : Nat} (hd : decode cc pc = .ok (.ifCond .eq off, 3)) (ht : (pc : Int) + off = (tgt : Int)) (hx : R32 x) (kt : (x = 0) → E Γ tgt lv st w) (kf : ¬ (x = 0) → E Γ (pc + 3) lv st w) : E Γ pc lv (vI x :: st) w := by
  intro H locs ls cells slots hH hl hv hc hs
  exact lv_if_eq o.hx o.hb hd ht (fun q => kt ((cI_eq hx ⟨by decide, by decide⟩).mp q) H locs ls cells slots hH hl hv hc hs) (fun q => kf (fun h => q ((cI_eq hx ⟨by decide, by decide⟩).mpr h)) H locs ls cells slots hH hl hv hc hs)
theorem e_if_ne (o : Ok Γ own cc nL ret d) {x : Int} {off : Int} {tgt : Nat} (hd : decode cc pc = .ok (.ifCond .ne off, 3)) (ht : (pc : Int) + off = (tgt : Int)) (hx : R32 x) (kt : (¬ x = 0) → E Γ tgt lv st w) (kf : ¬ (¬ x = 0) → E Γ (pc + 3) lv st w) : E Γ pc lv (vI x :: st) w := by
  intro H locs ls cells slots hH hl hv hc hs
  exact lv_if_ne o.hx o.hb hd ht (fun q => kt (fun h => q ((cI_eq hx ⟨by decide, by decide⟩).mpr h)) H locs ls cells slots hH hl hv hc hs) (fun q => kf (fun h => h ((cI_eq hx ⟨by decide, by decide⟩).mp (by first | exact q | exact Classical.not_not.mp q))) H locs ls cells slots hH hl hv hc hs)
theorem e_if_lt (o : Ok Γ own cc nL ret d) {x : Int} {off : Int} {tgt : Nat} (hd : decode cc pc = .ok (.ifCond .lt off, 3)) (ht : (pc : Int) + off = (tgt : Int)) (hx : R32 x) (kt : (x < 0) → E Γ tgt lv st w) (kf : ¬ (x < 0) → E Γ (pc + 3) lv st w) : E Γ pc lv (vI x :: st) w := by
  intro H locs ls cells slots hH hl hv hc hs
  exact lv_if_lt o.hx o.hb hd ht (fun q => kt ((cI_lt hx ⟨by decide, by decide⟩).mp q) H locs ls cells slots hH hl hv hc hs) (fun q => kf (fun h => q ((cI_lt hx ⟨by decide, by decide⟩).mpr h)) H locs ls cells slots hH hl hv hc hs)
theorem e_if_ge (o : Ok Γ own cc nL ret d) {x : Int} {off : Int} {tgt : Nat} (hd : decode cc pc = .ok (.ifCond .ge off, 3)) (ht : (pc : Int) + off = (tgt : Int)) (hx : R32 x) (kt : (0 ≤ x) → E Γ tgt lv st w) (kf : ¬ (0 ≤ x) → E Γ (pc + 3) lv st w) : E Γ pc lv (vI x :: st) w := by
  intro H locs ls cells slots hH hl hv hc hs
  exact lv_if_ge o.hx o.hb hd ht (fun q => kt ((cI_le ⟨by decide, by decide⟩ hx).mp q) H locs ls cells slots hH hl hv hc hs) (fun q => kf (fun h => q ((cI_le ⟨by decide, by decide⟩ hx).mpr h)) H locs ls cells slots hH hl hv hc hs)
theorem e_if_gt (o : Ok Γ own cc nL ret d) {x : Int} {off : Int} {tgt : Nat} (hd : decode cc pc = .ok (.ifCond .gt off, 3)) (ht : (pc : Int) + off = (tgt : Int)) (hx : R32 x) (kt : (0 < x) → E Γ tgt lv st w) (kf : ¬ (0 < x) → E Γ (pc + 3) lv st w) : E Γ pc lv (vI x :: st) w := by
  intro H locs ls cells slots hH hl hv hc hs
  exact lv_if_gt o.hx o.hb hd ht (fun q => kt ((cI_lt ⟨by decide, by decide⟩ hx).mp q) H locs ls cells slots hH hl hv hc hs) (fun q => kf (fun h => q ((cI_lt ⟨by decide, by decide⟩ hx).mpr h)) H locs ls cells slots hH hl hv hc hs)
theorem e_if_le (o : Ok Γ own cc nL ret d) {x : Int} {off : Int} {tgt : Nat} (hd : decode cc pc = .ok (.ifCond .le off, 3)) (ht : (pc : Int) + off = (tgt : Int)) (hx : R32 x) (kt : (x ≤ 0) → E Γ tgt lv st w) (kf : ¬ (x ≤ 0) → E Γ (pc + 3) lv st w) : E Γ pc lv (vI x :: st) w := by
  intro H locs ls cells slots hH hl hv hc hs
  exact lv_if_le o.hx o.hb hd ht (fun q => kt ((cI_le hx ⟨by decide, by decide⟩).mp q) H locs ls cells slots hH hl hv hc hs) (fun q => kf (fun h => q ((cI_le hx ⟨by decide, by decide⟩).mpr h)) H locs ls cells slots hH hl hv hc hs)
theorem e_icmp_eq (o : Ok Γ own cc nL ret d) {x y : Int} {off : Int} {tgt : Nat} (hd : decode cc pc = .ok (.if_icmp .eq off, 3)) (ht : (pc : Int) + off = (tgt : Int)) (hx : R32 x) (hy : R32 y) (kt : (x = y) → E Γ tgt lv st w) (kf : ¬ (x = y) → E Γ (pc + 3) lv st w) : E Γ pc lv (vI y :: vI x :: st) w := by
  intro H locs ls cells slots hH hl hv hc hs
  exact lv_icmp_eq o.hx o.hb hd ht (fun q => kt ((cI_eq hx hy).mp q) H locs ls cells slots hH hl hv hc hs) (fun q => kf (fun h => q ((cI_eq hx hy).mpr h)) H locs ls cells slots hH hl hv hc hs)
theorem e_icmp_ne (o : Ok Γ own cc nL ret d) {x y : Int} {off : Int} {tgt : Nat} (hd : decode cc pc = .ok (.if_icmp .ne off, 3)) (ht : (pc : Int) + off = (tgt : Int)) (hx : R32 x) (hy : R32 y) (kt : (¬ x = y) → E Γ tgt lv st w) (kf : ¬ (¬ x = y) → E Γ (pc + 3) lv st w) : E Γ pc lv (vI y :: vI x :: st) w := by
  intro H locs ls cells slots hH hl hv hc hs
  exact lv_icmp_ne o.hx o.hb hd ht (fun q => kt (fun h => q ((cI_eq hx hy).mpr h)) H locs ls cells slots hH hl hv hc hs) (fun q => kf (fun h => h ((cI_eq hx hy).mp (by first | exact q | exact Classical.not_not.mp q))) H locs ls cells slots hH hl hv hc hs)
theorem e_icmp_lt (o : Ok Γ own cc nL ret d) {x y : Int} {off : Int} {tgt : Nat} (hd : decode cc pc = .ok (.if_icmp .lt off, 3)) (ht : (pc : Int) + off = (tgt : Int)) (hx : R32 x) (hy : R32 y) (kt : (x < y) → E Γ tgt lv st w) (kf : ¬ (x < y) → E Γ (pc + 3) lv st w) : E Γ pc lv (vI y :: vI x :: st) w := by
  intro H locs ls cells slots hH hl hv hc hs
  exact lv_icmp_lt o.hx o.hb hd ht (fun q => kt ((cI_lt hx hy).mp q) H locs ls cells slots hH hl hv hc hs) (fun q => kf (fun h => q ((cI_lt hx hy).mpr h)) H locs ls cells slots hH hl hv hc hs)
theorem e_icmp_ge (o : Ok Γ own cc nL ret d) {x y : Int} {off : Int} {tgt : Nat} (hd : decode cc pc = .ok (.if_icmp .ge off, 3)) (ht : (pc : Int) + off = (tgt : Int)) (hx : R32 x) (hy : R32 y) (kt : (y ≤ x) → E Γ tgt lv st w) (kf : ¬ (y ≤ x) → E Γ (pc + 3) lv st w) : E Γ pc lv (vI y :: vI x :: st) w := by
  intro H locs ls cells slots hH hl hv hc hs
  exact lv_icmp_ge o.hx o.hb hd ht (fun q => kt ((cI_le hy hx).mp q) H locs ls cells slots hH hl hv hc hs) (fun q => kf (fun h => q ((cI_le hy hx).mpr h)) H locs ls cells slots hH hl hv hc hs)
theorem e_icmp_gt (o : Ok Γ own cc nL ret d) {x y : Int} {off : Int} {tgt : Nat} (hd : decode cc pc = .ok (.if_icmp .gt off, 3)) (ht : (pc : Int) + off = (tgt : Int)) (hx : R32 x) (hy : R32 y) (kt : (y < x) → E Γ tgt lv st w) (kf : ¬ (y < x) → E Γ (pc + 3) lv st w) : E Γ pc lv (vI y :: vI x :: st) w := by
  intro H locs ls cells slots hH hl hv hc hs
  exact lv_icmp_gt o.hx o.hb hd ht (fun q => kt ((cI_lt hy hx).mp q) H locs ls cells slots hH hl hv hc hs) (fun q => kf (fun h => q ((cI_lt hy hx).mpr h)) H locs ls cells slots hH hl hv hc hs)
theorem e_icmp_le (o : Ok Γ own cc nL ret d) {x y : Int} {off : Int} {tgt : Nat} (hd : decode cc pc = .ok (.if_icmp .le off, 3)) (ht : (pc : Int) + off = (tgt : Int)) (hx : R32 x) (hy : R32 y) (kt : (x ≤ y) → E Γ tgt lv st w) (kf : ¬ (x ≤ y) → E Γ (pc + 3) lv st w) : E Γ pc lv (vI y :: vI x :: st) w := by
  intro H locs ls cells slots hH hl hv hc hs
  exact lv_icmp_le o.hx o.hb hd ht (fun q => kt ((cI_le hx hy).mp q) H locs ls cells slots hH hl hv hc hs) (fun q => kf (fun h => q ((cI_le hx hy).mpr h)) H locs ls cells slots hH hl hv hc hs)
theorem e_lcmp_eq (o : Ok Γ own cc nL ret d) {x y : Int} {off : Int} {tgt : Nat} (hd1 : decode cc pc = .ok (.lcmp, 1)) (hd : decode cc (pc + 1) = .ok (.ifCond .eq off, 3)) (ht : ((pc + 1 : Nat) : Int) + off = (tgt : Int)) (hx : R64 x) (hy : R64 y) (kt : (x = y) → E Γ tgt lv st w) (kf : ¬ (x = y) → E Γ (pc + 1 + 3) lv st w) : E Γ pc lv (vJ y :: vJ x :: st) w := by
  intro H locs ls cells slots hH hl hv hc hs
  refine W.lcmp o.hx o.hb hd1 (lv_if_eq o.hx o.hb hd ht (fun q => kt ((cJ_eq hx hy).mp ((lg_cmp_eq _ _).mp q)) H locs ls cells slots hH hl hv hc hs) (fun q => kf (fun h => q ((lg_cmp_eq _ _).mpr ((cJ_eq hx hy).mpr h))) H locs ls cells slots hH hl hv hc hs))
theorem e_lcmp_ne (o : Ok Γ own cc nL ret d) {x y : Int} {off : Int} {tgt : Nat} (hd1 : decode cc pc = .ok (.lcmp, 1)) (hd : decode cc (pc + 1) = .ok (.ifCond .ne off, 3)) (ht : ((pc + 1 : Nat) : Int) + off = (tgt : Int)) (hx : R64 x) (hy : R64 y) (kt : (¬ x = y) → E Γ tgt lv st w) (kf : ¬ (¬ x = y) → E Γ (pc + 1 + 3) lv st w) : E Γ pc lv (vJ y :: vJ x :: st) w := by
  intro H locs ls cells slots hH hl hv hc hs
  refine W.lcmp o.hx o.hb hd1 (lv_if_ne o.hx o.hb hd ht (fun q => kt (fun h => q ((lg_cmp_eq _ _).mpr ((cJ_eq hx hy).mpr h))) H locs ls cells slots hH hl hv hc hs) (fun q => kf (fun h => h ((cJ_eq hx hy).mp ((lg_cmp_eq _ _).mp (by first | exact q | exact Classical.not_not.mp q)))) H locs ls cells slots hH hl hv hc hs))
theorem e_lcmp_lt (o : Ok Γ own cc nL ret d) {x y : Int} {off : Int} {tgt : Nat} (hd1 : decode cc pc = .ok (.lcmp, 1)) (hd : decode cc (pc + 1) = .ok (.ifCond .lt off, 3)) (ht : ((pc + 1 : Nat) : Int) + off = (tgt : Int)) (hx : R64 x) (hy : R64 y) (kt : (x < y) → E Γ tgt lv st w) (kf : ¬ (x < y) → E Γ (pc + 1 + 3) lv st w) : E Γ pc lv (vJ y :: vJ x :: st) w := by
  intro H locs ls cells slots hH hl hv hc hs
  refine W.lcmp o.hx o.hb hd1 (lv_if_lt o.hx o.hb hd ht (fun q => kt ((cJ_lt hx hy).mp ((lg_cmp_lt _ _).mp q)) H locs ls cells slots hH hl hv hc hs) (fun q => kf (fun h => q ((lg_cmp_lt _ _).mpr ((cJ_lt hx hy).mpr h))) H locs ls cells slots hH hl hv hc hs))
theorem e_lcmp_ge (o : Ok Γ own cc nL ret d) {x y : Int} {off : Int} {tgt : Nat} (hd1 : decode cc pc = .ok (.lcmp, 1)) (hd : decode cc (pc + 1) = .ok (.ifCond .ge off, 3)) (ht : ((pc + 1 : Nat) : Int) + off = (tgt : Int)) (hx : R64 x) (hy : R64 y) (kt : (y ≤ x) → E Γ tgt lv st w) (kf : ¬ (y ≤ x) → E Γ (pc + 1 + 3) lv st w) : E Γ pc lv (vJ y :: vJ x :: st) w := by
  intro H locs ls cells slots hH hl hv hc hs
  refine W.lcmp o.hx o.hb hd1 (lv_if_ge o.hx o.hb hd ht (fun q => kt ((cJ_le hy hx).mp ((lg_cmp_ge _ _).mp q)) H locs ls cells slots hH hl hv hc hs) (fun q => kf (fun h => q ((lg_cmp_ge _ _).mpr ((cJ_le hy hx).mpr h))) H locs ls cells slots hH hl hv hc hs))
theorem e_lcmp_gt (o : Ok Γ own cc nL ret d) {x y : Int} {off : Int} {tgt : Nat} (hd1 : decode cc pc = .ok (.lcmp, 1)) (hd : decode cc (pc + 1) = .ok (.ifCond .gt off, 3)) (ht : ((pc + 1 : Nat) : Int) + off = (tgt : Int)) (hx : R64 x) (hy : R64 y) (kt : (y < x) → E Γ tgt lv st w) (kf : ¬ (y < x) → E Γ (pc + 1 + 3) lv st w) : E Γ pc lv (vJ y :: vJ x :: st) w := by
  intro H locs ls cells slots hH hl hv hc hs
  refine W.lcmp o.hx o.hb hd1 (lv_if_gt o.hx o.hb hd ht (fun q => kt ((cJ_lt hy hx).mp ((lg_cmp_gt _ _).mp q)) H locs ls cells slots hH hl hv hc hs) (fun q => kf (fun h => q ((lg_cmp_gt _ _).mpr ((cJ_lt hy hx).mpr h))) H locs ls cells slots hH hl hv hc hs))
theorem e_lcmp_le (o : Ok Γ own cc nL ret d) {x y : Int} {off : Int} {tgt : Nat} (hd1 : decode cc pc = .ok (.lcmp, 1)) (hd : decode cc (pc + 1) = .ok (.ifCond .le off, 3)) (ht : ((pc + 1 : Nat) : Int) + off = (tgt : Int)) (hx : R64 x) (hy : R64 y) (kt : (x ≤ y) → E Γ tgt lv st w) (kf : ¬ (x ≤ y) → E Γ (pc + 1 + 3) lv st w) : E Γ pc lv (vJ y :: vJ x :: st) w := by
  intro H locs ls cells slots hH hl hv hc hs
  refine W.lcmp o.hx o.hb hd1 (lv_if_le o.hx o.hb hd ht (fun q => kt ((cJ_le hx hy).mp ((lg_cmp_le _ _).mp q)) H locs ls cells slots hH hl hv hc hs) (fun q => kf (fun h => q ((lg_cmp_le _ _).mpr ((cJ_le hx hy).mpr h))) H locs ls cells slots hH hl hv hc hs))
theorem rR_none {g : gC} {x : Int} : rR g x = none ↔ x = 0 := by
  unfold rR
  split
  · constructor
    · intro h; cases h
    · intro h; omega
  · split
    · simp_all
    · constructor
      · intro h; cases h
      · intro h; contradiction
theorem e_ifnull (o : Ok Γ own cc nL ret d) {x : Int} {off : Int} {tgt : Nat} (hd : decode cc pc = .ok (.ifnull off, 3)) (ht : (pc : Int) + off = (tgt : Int)) (kt : (x = 0) → E Γ tgt lv st w) (kf : ¬ (x = 0) → E Γ (pc + 3) lv st w) : E Γ pc lv (vA (mg Γ) x :: st) w := by
  intro H locs ls cells slots hH hl hv hc hs
  unfold vA
  cases hr : rR (mg Γ) x with
  | none => exact lv_ifnullN o.hx o.hb hd ht (kt (rR_none.mp hr) H locs ls cells slots hH hl hv hc hs)
  | some a => exact lv_ifnull o.hx o.hb hd (kf (fun q => by rw [rR_none.mpr q] at hr; cases hr) H locs ls cells slots hH hl hv hc hs)
theorem e_ifnonnull (o : Ok Γ own cc nL ret d) {x : Int} {off : Int} {tgt : Nat} (hd : decode cc pc = .ok (.ifnonnull off, 3)) (ht : (pc : Int) + off = (tgt : Int)) (kt : (¬ x = 0) → E Γ tgt lv st w) (kf : ¬ (¬ x = 0) → E Γ (pc + 3) lv st w) : E Γ pc lv (vA (mg Γ) x :: st) w := by
  intro H locs ls cells slots hH hl hv hc hs
  unfold vA
  cases hr : rR (mg Γ) x with
  | none => exact lv_ifnonnullN o.hx o.hb hd (kf (fun q => q (rR_none.mp hr)) H locs ls cells slots hH hl hv hc hs)
  | some a => exact lv_ifnonnull o.hx o.hb hd ht (kt (fun q => by rw [rR_none.mpr q] at hr; cases hr) H locs ls cells slots hH hl hv hc hs)
end
section
variable {σ A : Type} {Γ : Gm} {own : String} {cc : ByteArray} {nL : Nat} {ret : Option FieldType} {d : Nat} {pc : Nat} {lv lv' : List (Nat × Value)} {st : List Value} {wld : σ → Wd} {K : A → σ → Prop} {m m1 m2 : Mo σ A}
theorem s_iconst (o : Ok Γ own cc nL ret d) {n : Int} (hd : decode cc pc = .ok (.iconst n, 1)) (k : Sx Γ wld K (pc + 1) lv (vI n :: st) m) : Sx Γ wld K pc lv st m := fun s a s1 h hK => e_iconst o hd (k s a s1 h hK)
theorem s_bipush (o : Ok Γ own cc nL ret d) {n : Int} (hd : decode cc pc = .ok (.bipush n, 2)) (hn : (decide (-128 ≤ n) && decide (n ≤ 127)) = true) (k : Sx Γ wld K (pc + 2) lv (vI n :: st) m) : Sx Γ wld K pc lv st m := fun s a s1 h hK => e_bipush o hd hn (k s a s1 h hK)
theorem s_sipush (o : Ok Γ own cc nL ret d) {n : Int} (hd : decode cc pc = .ok (.sipush n, 3)) (hn : (decide (-32768 ≤ n) && decide (n ≤ 32767)) = true) (k : Sx Γ wld K (pc + 3) lv (vI n :: st) m) : Sx Γ wld K pc lv st m := fun s a s1 h hK => e_sipush o hd hn (k s a s1 h hK)
theorem s_lconst (o : Ok Γ own cc nL ret d) {n : Fin 2} {x : Int} (hd : decode cc pc = .ok (.lconst n, 1)) (hx : Int64.ofNat (n : Nat) = Int64.ofInt x) (k : Sx Γ wld K (pc + 1) lv (vJ x :: st) m) : Sx Γ wld K pc lv st m := fun s a s1 h hK => e_lconst o hd hx (k s a s1 h hK)
theorem s_ldc (o : Ok Γ own cc nL ret d) {i : Nat} {v : Int32} {n : Int} (hd : decode cc pc = .ok (.ldc i, 2)) (hw : Cond.constant own i v ∈ lw_tbl) (hv0 : v = Int32.ofInt n) (k : Sx Γ wld K (pc + 2) lv (vI n :: st) m) : Sx Γ wld K pc lv st m := fun s a s1 h hK => e_ldc o hd hw hv0 (k s a s1 h hK)
theorem s_ldcw (o : Ok Γ own cc nL ret d) {i : Nat} {v : Int32} {n : Int} (hd : decode cc pc = .ok (.ldc_w i, 3)) (hw : Cond.constant own i v ∈ lw_tbl) (hv0 : v = Int32.ofInt n) (k : Sx Γ wld K (pc + 3) lv (vI n :: st) m) : Sx Γ wld K pc lv st m := fun s a s1 h hK => e_ldcw o hd hw hv0 (k s a s1 h hK)
theorem s_ldc2 (o : Ok Γ own cc nL ret d) {i : Nat} {v : Int64} {n : Int} (hd : decode cc pc = .ok (.ldc2_w i, 3)) (hw : Cond.constantLong own i v ∈ lw_tbl) (hv0 : v = Int64.ofInt n) (k : Sx Γ wld K (pc + 3) lv (vJ n :: st) m) : Sx Γ wld K pc lv st m := fun s a s1 h hK => e_ldc2 o hd hw hv0 (k s a s1 h hK)
theorem s_null (o : Ok Γ own cc nL ret d) (hd : decode cc pc = .ok (.aconst_null, 1)) (k : Sx Γ wld K (pc + 1) lv (vA (mg Γ) 0 :: st) m) : Sx Γ wld K pc lv st m := fun s a s1 h hK => e_null o hd (k s a s1 h hK)
theorem s_iload_n (o : Ok Γ own cc nL ret d) {q : Fin 4} {i : Nat} {x : Int} (hd : decode cc pc = .ok (.iload_n q, 1)) (hi : (q : Nat) = i) (j : Nat) (hj : lv[j]? = some (i, vI x)) (k : Sx Γ wld K (pc + 1) lv (vI x :: st) m) : Sx Γ wld K pc lv st m := fun s a s1 h hK => e_iload_n o hd hi j hj (k s a s1 h hK)
theorem s_iload (o : Ok Γ own cc nL ret d) {i : Nat} {x : Int} (hd : decode cc pc = .ok (.iload i, 2)) (j : Nat) (hj : lv[j]? = some (i, vI x)) (k : Sx Γ wld K (pc + 2) lv (vI x :: st) m) : Sx Γ wld K pc lv st m := fun s a s1 h hK => e_iload o hd j hj (k s a s1 h hK)
theorem s_lload_n (o : Ok Γ own cc nL ret d) {q : Fin 4} {i : Nat} {x : Int} (hd : decode cc pc = .ok (.lload_n q, 1)) (hi : (q : Nat) = i) (j : Nat) (hj : lv[j]? = some (i, vJ x)) (k : Sx Γ wld K (pc + 1) lv (vJ x :: st) m) : Sx Γ wld K pc lv st m := fun s a s1 h hK => e_lload_n o hd hi j hj (k s a s1 h hK)
theorem s_lload (o : Ok Γ own cc nL ret d) {i : Nat} {x : Int} (hd : decode cc pc = .ok (.lload i, 2)) (j : Nat) (hj : lv[j]? = some (i, vJ x)) (k : Sx Γ wld K (pc + 2) lv (vJ x :: st) m) : Sx Γ wld K pc lv st m := fun s a s1 h hK => e_lload o hd j hj (k s a s1 h hK)
theorem s_aload_n (o : Ok Γ own cc nL ret d) {q : Fin 4} {i : Nat} {x : Int} (hd : decode cc pc = .ok (.aload_n q, 1)) (hi : (q : Nat) = i) (j : Nat) (hj : lv[j]? = some (i, vA (mg Γ) x)) (k : Sx Γ wld K (pc + 1) lv (vA (mg Γ) x :: st) m) : Sx Γ wld K pc lv st m := fun s a s1 h hK => e_aload_n o hd hi j hj (k s a s1 h hK)
theorem s_aload (o : Ok Γ own cc nL ret d) {i : Nat} {x : Int} (hd : decode cc pc = .ok (.aload i, 2)) (j : Nat) (hj : lv[j]? = some (i, vA (mg Γ) x)) (k : Sx Γ wld K (pc + 2) lv (vA (mg Γ) x :: st) m) : Sx Γ wld K pc lv st m := fun s a s1 h hK => e_aload o hd j hj (k s a s1 h hK)
theorem s_istore_n (o : Ok Γ own cc nL ret d) {q : Fin 4} {i : Nat} {x : Int} (hd : decode cc pc = .ok (.istore_n q, 1)) (hi : (q : Nat) = i) (hn : Nat.blt (i) nL = true) (ks : List Nat) (hp : lv_pick ((i, vI x) :: lv.filter (fun q => !(q.1 == i) && !(q.1 + 1 == i && q.2.category == 2))) ks = lv') (k : Sx Γ wld K (pc + 1) lv' st m) : Sx Γ wld K pc lv (vI x :: st) m := fun s a s1 h hK => e_istore_n o hd hi hn ks hp (k s a s1 h hK)
theorem s_istore (o : Ok Γ own cc nL ret d) {i : Nat} {x : Int} (hd : decode cc pc = .ok (.istore i, 2)) (hn : Nat.blt (i) nL = true) (ks : List Nat) (hp : lv_pick ((i, vI x) :: lv.filter (fun q => !(q.1 == i) && !(q.1 + 1 == i && q.2.category == 2))) ks = lv') (k : Sx Γ wld K (pc + 2) lv' st m) : Sx Γ wld K pc lv (vI x :: st) m := fun s a s1 h hK => e_istore o hd hn ks hp (k s a s1 h hK)
theorem s_lstore_n (o : Ok Γ own cc nL ret d) {q : Fin 4} {i : Nat} {x : Int} (hd : decode cc pc = .ok (.lstore_n q, 1)) (hi : (q : Nat) = i) (hn : Nat.blt (i + 1) nL = true) (ks : List Nat) (hp : lv_pick ((i, vJ x) :: lv.filter (fun q => !(q.1 == i) && (!(q.1 == i + 1) && !(q.1 + 1 == i && q.2.category == 2)))) ks = lv') (k : Sx Γ wld K (pc + 1) lv' st m) : Sx Γ wld K pc lv (vJ x :: st) m := fun s a s1 h hK => e_lstore_n o hd hi hn ks hp (k s a s1 h hK)
theorem s_lstore (o : Ok Γ own cc nL ret d) {i : Nat} {x : Int} (hd : decode cc pc = .ok (.lstore i, 2)) (hn : Nat.blt (i + 1) nL = true) (ks : List Nat) (hp : lv_pick ((i, vJ x) :: lv.filter (fun q => !(q.1 == i) && (!(q.1 == i + 1) && !(q.1 + 1 == i && q.2.category == 2)))) ks = lv') (k : Sx Γ wld K (pc + 2) lv' st m) : Sx Γ wld K pc lv (vJ x :: st) m := fun s a s1 h hK => e_lstore o hd hn ks hp (k s a s1 h hK)
theorem s_astore_n (o : Ok Γ own cc nL ret d) {q : Fin 4} {i : Nat} {x : Int} (hd : decode cc pc = .ok (.astore_n q, 1)) (hi : (q : Nat) = i) (hn : Nat.blt i nL = true) (ks : List Nat) (hp : lv_pick ((i, vA (mg Γ) x) :: lv.filter (fun q => !(q.1 == i) && !(q.1 + 1 == i && q.2.category == 2))) ks = lv') (k : Sx Γ wld K (pc + 1) lv' st m) : Sx Γ wld K pc lv (vA (mg Γ) x :: st) m := fun s a s1 h hK => e_astore_n o hd hi hn ks hp (k s a s1 h hK)
theorem s_astore (o : Ok Γ own cc nL ret d) {i : Nat} {x : Int} (hd : decode cc pc = .ok (.astore i, 2)) (hn : Nat.blt i nL = true) (ks : List Nat) (hp : lv_pick ((i, vA (mg Γ) x) :: lv.filter (fun q => !(q.1 == i) && !(q.1 + 1 == i && q.2.category == 2))) ks = lv') (k : Sx Γ wld K (pc + 2) lv' st m) : Sx Γ wld K pc lv (vA (mg Γ) x :: st) m := fun s a s1 h hK => e_astore o hd hn ks hp (k s a s1 h hK)
theorem s_iinc (o : Ok Γ own cc nL ret d) {i j : Nat} {n x : Int} (hd : decode cc pc = .ok (.iinc i n, 3)) (hj : lv[j]? = some (i, vI x)) (hn : Nat.blt i nL = true) (ks : List Nat) (hp : lv_pick ((i, vI (w32 (x + n))) :: lv.filter (fun q => !(q.1 == i) && !(q.1 + 1 == i && q.2.category == 2))) ks = lv') (k : Sx Γ wld K (pc + 3) lv' st m) : Sx Γ wld K pc lv st m := fun s a s1 h hK => e_iinc o hd hj hn ks hp (k s a s1 h hK)
theorem s_iadd (o : Ok Γ own cc nL ret d) {x y : Int} (hd : decode cc pc = .ok (.iadd, 1)) (k : Sx Γ wld K (pc + 1) lv (vI (w32 (x + y)) :: st) m) : Sx Γ wld K pc lv (vI y :: vI x :: st) m := fun s a s1 h hK => e_iadd o hd (k s a s1 h hK)
theorem s_isub (o : Ok Γ own cc nL ret d) {x y : Int} (hd : decode cc pc = .ok (.isub, 1)) (k : Sx Γ wld K (pc + 1) lv (vI (w32 (x - y)) :: st) m) : Sx Γ wld K pc lv (vI y :: vI x :: st) m := fun s a s1 h hK => e_isub o hd (k s a s1 h hK)
theorem s_imul (o : Ok Γ own cc nL ret d) {x y : Int} (hd : decode cc pc = .ok (.imul, 1)) (k : Sx Γ wld K (pc + 1) lv (vI (w32 (x * y)) :: st) m) : Sx Γ wld K pc lv (vI y :: vI x :: st) m := fun s a s1 h hK => e_imul o hd (k s a s1 h hK)
theorem s_ladd (o : Ok Γ own cc nL ret d) {x y : Int} (hd : decode cc pc = .ok (.ladd, 1)) (k : Sx Γ wld K (pc + 1) lv (vJ (w64 (x + y)) :: st) m) : Sx Γ wld K pc lv (vJ y :: vJ x :: st) m := fun s a s1 h hK => e_ladd o hd (k s a s1 h hK)
theorem s_lsub (o : Ok Γ own cc nL ret d) {x y : Int} (hd : decode cc pc = .ok (.lsub, 1)) (k : Sx Γ wld K (pc + 1) lv (vJ (w64 (x - y)) :: st) m) : Sx Γ wld K pc lv (vJ y :: vJ x :: st) m := fun s a s1 h hK => e_lsub o hd (k s a s1 h hK)
theorem s_lmul (o : Ok Γ own cc nL ret d) {x y : Int} (hd : decode cc pc = .ok (.lmul, 1)) (k : Sx Γ wld K (pc + 1) lv (vJ (w64 (x * y)) :: st) m) : Sx Γ wld K pc lv (vJ y :: vJ x :: st) m := fun s a s1 h hK => e_lmul o hd (k s a s1 h hK)
theorem s_ishl (o : Ok Γ own cc nL ret d) {x y : Int} (hd : decode cc pc = .ok (.ishl, 1)) (k : Sx Γ wld K (pc + 1) lv (vI (ishl x y) :: st) m) : Sx Γ wld K pc lv (vI y :: vI x :: st) m := fun s a s1 h hK => e_ishl o hd (k s a s1 h hK)
theorem s_ishr (o : Ok Γ own cc nL ret d) {x y : Int} (hd : decode cc pc = .ok (.ishr, 1)) (k : Sx Γ wld K (pc + 1) lv (vI (ishr x y) :: st) m) : Sx Γ wld K pc lv (vI y :: vI x :: st) m := fun s a s1 h hK => e_ishr o hd (k s a s1 h hK)
theorem s_iand (o : Ok Γ own cc nL ret d) {x y : Int} (hd : decode cc pc = .ok (.iand, 1)) (k : Sx Γ wld K (pc + 1) lv (vI (iand x y) :: st) m) : Sx Γ wld K pc lv (vI y :: vI x :: st) m := fun s a s1 h hK => e_iand o hd (k s a s1 h hK)
theorem s_ior (o : Ok Γ own cc nL ret d) {x y : Int} (hd : decode cc pc = .ok (.ior, 1)) (k : Sx Γ wld K (pc + 1) lv (vI (ior x y) :: st) m) : Sx Γ wld K pc lv (vI y :: vI x :: st) m := fun s a s1 h hK => e_ior o hd (k s a s1 h hK)
theorem s_ixor (o : Ok Γ own cc nL ret d) {x y : Int} (hd : decode cc pc = .ok (.ixor, 1)) (k : Sx Γ wld K (pc + 1) lv (vI (ixor x y) :: st) m) : Sx Γ wld K pc lv (vI y :: vI x :: st) m := fun s a s1 h hK => e_ixor o hd (k s a s1 h hK)
theorem s_land (o : Ok Γ own cc nL ret d) {x y : Int} (hd : decode cc pc = .ok (.land, 1)) (k : Sx Γ wld K (pc + 1) lv (vJ (land x y) :: st) m) : Sx Γ wld K pc lv (vJ y :: vJ x :: st) m := fun s a s1 h hK => e_land o hd (k s a s1 h hK)
theorem s_lor (o : Ok Γ own cc nL ret d) {x y : Int} (hd : decode cc pc = .ok (.lor, 1)) (k : Sx Γ wld K (pc + 1) lv (vJ (lor x y) :: st) m) : Sx Γ wld K pc lv (vJ y :: vJ x :: st) m := fun s a s1 h hK => e_lor o hd (k s a s1 h hK)
theorem s_lxor (o : Ok Γ own cc nL ret d) {x y : Int} (hd : decode cc pc = .ok (.lxor, 1)) (k : Sx Γ wld K (pc + 1) lv (vJ (lxor x y) :: st) m) : Sx Γ wld K pc lv (vJ y :: vJ x :: st) m := fun s a s1 h hK => e_lxor o hd (k s a s1 h hK)
theorem s_lshl (o : Ok Γ own cc nL ret d) {x y : Int} (hd : decode cc pc = .ok (.lshl, 1)) (k : Sx Γ wld K (pc + 1) lv (vJ (lshl x y) :: st) m) : Sx Γ wld K pc lv (vI y :: vJ x :: st) m := fun s a s1 h hK => e_lshl o hd (k s a s1 h hK)
theorem s_lshr (o : Ok Γ own cc nL ret d) {x y : Int} (hd : decode cc pc = .ok (.lshr, 1)) (k : Sx Γ wld K (pc + 1) lv (vJ (lshr x y) :: st) m) : Sx Γ wld K pc lv (vI y :: vJ x :: st) m := fun s a s1 h hK => e_lshr o hd (k s a s1 h hK)
theorem s_idiv (o : Ok Γ own cc nL ret d) {x y : Int} (hd : decode cc pc = .ok (.idiv, 1)) (hy : R32 y) (h0 : y ≠ 0) (k : Sx Γ wld K (pc + 1) lv (vI (idv x y) :: st) m) : Sx Γ wld K pc lv (vI y :: vI x :: st) m := fun s a s1 h hK => e_idiv o hd hy h0 (k s a s1 h hK)
theorem s_irem (o : Ok Γ own cc nL ret d) {x y : Int} (hd : decode cc pc = .ok (.irem, 1)) (hy : R32 y) (h0 : y ≠ 0) (k : Sx Γ wld K (pc + 1) lv (vI (irm x y) :: st) m) : Sx Γ wld K pc lv (vI y :: vI x :: st) m := fun s a s1 h hK => e_irem o hd hy h0 (k s a s1 h hK)
theorem s_ineg (o : Ok Γ own cc nL ret d) {x : Int} (hd : decode cc pc = .ok (.ineg, 1)) (k : Sx Γ wld K (pc + 1) lv (vI (w32 (-x)) :: st) m) : Sx Γ wld K pc lv (vI x :: st) m := fun s a s1 h hK => e_ineg o hd (k s a s1 h hK)
theorem s_i2l (o : Ok Γ own cc nL ret d) {x : Int} (hd : decode cc pc = .ok (.i2l, 1)) (hx : R32 x) (k : Sx Γ wld K (pc + 1) lv (vJ x :: st) m) : Sx Γ wld K pc lv (vI x :: st) m := fun s a s1 h hK => e_i2l o hd hx (k s a s1 h hK)
theorem s_l2i (o : Ok Γ own cc nL ret d) {x : Int} (hd : decode cc pc = .ok (.l2i, 1)) (k : Sx Γ wld K (pc + 1) lv (vI (l2i x) :: st) m) : Sx Γ wld K pc lv (vJ x :: st) m := fun s a s1 h hK => e_l2i o hd (k s a s1 h hK)
theorem s_i2c (o : Ok Γ own cc nL ret d) {x : Int} (hd : decode cc pc = .ok (.i2c, 1)) (k : Sx Γ wld K (pc + 1) lv (vI (i2c x) :: st) m) : Sx Γ wld K pc lv (vI x :: st) m := fun s a s1 h hK => e_i2c o hd (k s a s1 h hK)
theorem s_dup (o : Ok Γ own cc nL ret d) {v : Value} (hd : decode cc pc = .ok (.dup, 1)) (hc1 : v.category = 1) (k : Sx Γ wld K (pc + 1) lv (v :: v :: st) m) : Sx Γ wld K pc lv (v :: st) m := fun s a s1 h hK => e_dup o hd hc1 (k s a s1 h hK)
theorem s_dup_x1 (o : Ok Γ own cc nL ret d) {v u : Value} (hd : decode cc pc = .ok (.dup_x1, 1)) (hc1 : v.category = 1) (hc2 : u.category = 1) (k : Sx Γ wld K (pc + 1) lv (v :: u :: v :: st) m) : Sx Γ wld K pc lv (v :: u :: st) m := fun s a s1 h hK => e_dup_x1 o hd hc1 hc2 (k s a s1 h hK)
theorem s_dup2 (o : Ok Γ own cc nL ret d) {v u : Value} (hd : decode cc pc = .ok (.dup2, 1)) (hc1 : v.category = 1) (hc2 : u.category = 1) (k : Sx Γ wld K (pc + 1) lv (v :: u :: v :: u :: st) m) : Sx Γ wld K pc lv (v :: u :: st) m := fun s a s1 h hK => e_dup2 o hd hc1 hc2 (k s a s1 h hK)
theorem s_pop (o : Ok Γ own cc nL ret d) {v : Value} (hd : decode cc pc = .ok (.pop, 1)) (hc1 : v.category = 1) (k : Sx Γ wld K (pc + 1) lv st m) : Sx Γ wld K pc lv (v :: st) m := fun s a s1 h hK => e_pop o hd hc1 (k s a s1 h hK)
theorem s_goto (o : Ok Γ own cc nL ret d) {off : Int} {tgt : Nat} (hd : decode cc pc = .ok (.goto off, 3)) (ht : (pc : Int) + off = (tgt : Int)) (k : Sx Γ wld K tgt lv st m) : Sx Γ wld K pc lv st m := fun s a s1 h hK => e_goto o hd ht (k s a s1 h hK)
theorem s_sub (o : Ok Γ own cc nL ret d) (ks : List Nat) (hp : lv_pick lv ks = lv') (k : Sx Γ wld K pc lv' st m) : Sx Γ wld K pc lv st m := fun s a s1 h hK => e_sub o ks hp (k s a s1 h hK)
theorem s_if_eq (o : Ok Γ own cc nL ret d) {x : Int} {off : Int} {tgt : Nat} (hd : decode cc pc = .ok (.ifCond .eq off, 3)) (ht : (pc : Int) + off = (tgt : Int)) (hx : R32 x) (kt : Sx Γ wld K tgt lv st m1) (kf : Sx Γ wld K (pc + 3) lv st m2) : Sx Γ wld K pc lv (vI x :: st) (if (x = 0) then m1 else m2) := fun s a s1 h hK => e_if_eq o hd ht hx (fun q => kt s a s1 (by rw [if_pos q] at h; exact h) hK) (fun q => kf s a s1 (by rw [if_neg q] at h; exact h) hK)
theorem s_if_ne (o : Ok Γ own cc nL ret d) {x : Int} {off : Int} {tgt : Nat} (hd : decode cc pc = .ok (.ifCond .ne off, 3)) (ht : (pc : Int) + off = (tgt : Int)) (hx : R32 x) (kt : Sx Γ wld K tgt lv st m1) (kf : Sx Γ wld K (pc + 3) lv st m2) : Sx Γ wld K pc lv (vI x :: st) (if (¬ x = 0) then m1 else m2) := fun s a s1 h hK => e_if_ne o hd ht hx (fun q => kt s a s1 (by rw [if_pos q] at h; exact h) hK) (fun q => kf s a s1 (by rw [if_neg q] at h; exact h) hK)
theorem s_if_lt (o : Ok Γ own cc nL ret d) {x : Int} {off : Int} {tgt : Nat} (hd : decode cc pc = .ok (.ifCond .lt off, 3)) (ht : (pc : Int) + off = (tgt : Int)) (hx : R32 x) (kt : Sx Γ wld K tgt lv st m1) (kf : Sx Γ wld K (pc + 3) lv st m2) : Sx Γ wld K pc lv (vI x :: st) (if (x < 0) then m1 else m2) := fun s a s1 h hK => e_if_lt o hd ht hx (fun q => kt s a s1 (by rw [if_pos q] at h; exact h) hK) (fun q => kf s a s1 (by rw [if_neg q] at h; exact h) hK)
theorem s_if_ge (o : Ok Γ own cc nL ret d) {x : Int} {off : Int} {tgt : Nat} (hd : decode cc pc = .ok (.ifCond .ge off, 3)) (ht : (pc : Int) + off = (tgt : Int)) (hx : R32 x) (kt : Sx Γ wld K tgt lv st m1) (kf : Sx Γ wld K (pc + 3) lv st m2) : Sx Γ wld K pc lv (vI x :: st) (if (0 ≤ x) then m1 else m2) := fun s a s1 h hK => e_if_ge o hd ht hx (fun q => kt s a s1 (by rw [if_pos q] at h; exact h) hK) (fun q => kf s a s1 (by rw [if_neg q] at h; exact h) hK)
theorem s_if_gt (o : Ok Γ own cc nL ret d) {x : Int} {off : Int} {tgt : Nat} (hd : decode cc pc = .ok (.ifCond .gt off, 3)) (ht : (pc : Int) + off = (tgt : Int)) (hx : R32 x) (kt : Sx Γ wld K tgt lv st m1) (kf : Sx Γ wld K (pc + 3) lv st m2) : Sx Γ wld K pc lv (vI x :: st) (if (0 < x) then m1 else m2) := fun s a s1 h hK => e_if_gt o hd ht hx (fun q => kt s a s1 (by rw [if_pos q] at h; exact h) hK) (fun q => kf s a s1 (by rw [if_neg q] at h; exact h) hK)
theorem s_if_le (o : Ok Γ own cc nL ret d) {x : Int} {off : Int} {tgt : Nat} (hd : decode cc pc = .ok (.ifCond .le off, 3)) (ht : (pc : Int) + off = (tgt : Int)) (hx : R32 x) (kt : Sx Γ wld K tgt lv st m1) (kf : Sx Γ wld K (pc + 3) lv st m2) : Sx Γ wld K pc lv (vI x :: st) (if (x ≤ 0) then m1 else m2) := fun s a s1 h hK => e_if_le o hd ht hx (fun q => kt s a s1 (by rw [if_pos q] at h; exact h) hK) (fun q => kf s a s1 (by rw [if_neg q] at h; exact h) hK)
theorem s_icmp_eq (o : Ok Γ own cc nL ret d) {x y : Int} {off : Int} {tgt : Nat} (hd : decode cc pc = .ok (.if_icmp .eq off, 3)) (ht : (pc : Int) + off = (tgt : Int)) (hx : R32 x) (hy : R32 y) (kt : Sx Γ wld K tgt lv st m1) (kf : Sx Γ wld K (pc + 3) lv st m2) : Sx Γ wld K pc lv (vI y :: vI x :: st) (if (x = y) then m1 else m2) := fun s a s1 h hK => e_icmp_eq o hd ht hx hy (fun q => kt s a s1 (by rw [if_pos q] at h; exact h) hK) (fun q => kf s a s1 (by rw [if_neg q] at h; exact h) hK)
theorem s_icmp_ne (o : Ok Γ own cc nL ret d) {x y : Int} {off : Int} {tgt : Nat} (hd : decode cc pc = .ok (.if_icmp .ne off, 3)) (ht : (pc : Int) + off = (tgt : Int)) (hx : R32 x) (hy : R32 y) (kt : Sx Γ wld K tgt lv st m1) (kf : Sx Γ wld K (pc + 3) lv st m2) : Sx Γ wld K pc lv (vI y :: vI x :: st) (if (¬ x = y) then m1 else m2) := fun s a s1 h hK => e_icmp_ne o hd ht hx hy (fun q => kt s a s1 (by rw [if_pos q] at h; exact h) hK) (fun q => kf s a s1 (by rw [if_neg q] at h; exact h) hK)
theorem s_icmp_lt (o : Ok Γ own cc nL ret d) {x y : Int} {off : Int} {tgt : Nat} (hd : decode cc pc = .ok (.if_icmp .lt off, 3)) (ht : (pc : Int) + off = (tgt : Int)) (hx : R32 x) (hy : R32 y) (kt : Sx Γ wld K tgt lv st m1) (kf : Sx Γ wld K (pc + 3) lv st m2) : Sx Γ wld K pc lv (vI y :: vI x :: st) (if (x < y) then m1 else m2) := fun s a s1 h hK => e_icmp_lt o hd ht hx hy (fun q => kt s a s1 (by rw [if_pos q] at h; exact h) hK) (fun q => kf s a s1 (by rw [if_neg q] at h; exact h) hK)
theorem s_icmp_ge (o : Ok Γ own cc nL ret d) {x y : Int} {off : Int} {tgt : Nat} (hd : decode cc pc = .ok (.if_icmp .ge off, 3)) (ht : (pc : Int) + off = (tgt : Int)) (hx : R32 x) (hy : R32 y) (kt : Sx Γ wld K tgt lv st m1) (kf : Sx Γ wld K (pc + 3) lv st m2) : Sx Γ wld K pc lv (vI y :: vI x :: st) (if (y ≤ x) then m1 else m2) := fun s a s1 h hK => e_icmp_ge o hd ht hx hy (fun q => kt s a s1 (by rw [if_pos q] at h; exact h) hK) (fun q => kf s a s1 (by rw [if_neg q] at h; exact h) hK)
theorem s_icmp_gt (o : Ok Γ own cc nL ret d) {x y : Int} {off : Int} {tgt : Nat} (hd : decode cc pc = .ok (.if_icmp .gt off, 3)) (ht : (pc : Int) + off = (tgt : Int)) (hx : R32 x) (hy : R32 y) (kt : Sx Γ wld K tgt lv st m1) (kf : Sx Γ wld K (pc + 3) lv st m2) : Sx Γ wld K pc lv (vI y :: vI x :: st) (if (y < x) then m1 else m2) := fun s a s1 h hK => e_icmp_gt o hd ht hx hy (fun q => kt s a s1 (by rw [if_pos q] at h; exact h) hK) (fun q => kf s a s1 (by rw [if_neg q] at h; exact h) hK)
theorem s_icmp_le (o : Ok Γ own cc nL ret d) {x y : Int} {off : Int} {tgt : Nat} (hd : decode cc pc = .ok (.if_icmp .le off, 3)) (ht : (pc : Int) + off = (tgt : Int)) (hx : R32 x) (hy : R32 y) (kt : Sx Γ wld K tgt lv st m1) (kf : Sx Γ wld K (pc + 3) lv st m2) : Sx Γ wld K pc lv (vI y :: vI x :: st) (if (x ≤ y) then m1 else m2) := fun s a s1 h hK => e_icmp_le o hd ht hx hy (fun q => kt s a s1 (by rw [if_pos q] at h; exact h) hK) (fun q => kf s a s1 (by rw [if_neg q] at h; exact h) hK)
theorem s_lcmp_eq (o : Ok Γ own cc nL ret d) {x y : Int} {off : Int} {tgt : Nat} (hd1 : decode cc pc = .ok (.lcmp, 1)) (hd : decode cc (pc + 1) = .ok (.ifCond .eq off, 3)) (ht : ((pc + 1 : Nat) : Int) + off = (tgt : Int)) (hx : R64 x) (hy : R64 y) (kt : Sx Γ wld K tgt lv st m1) (kf : Sx Γ wld K (pc + 1 + 3) lv st m2) : Sx Γ wld K pc lv (vJ y :: vJ x :: st) (if (x = y) then m1 else m2) := fun s a s1 h hK => e_lcmp_eq o hd1 hd ht hx hy (fun q => kt s a s1 (by rw [if_pos q] at h; exact h) hK) (fun q => kf s a s1 (by rw [if_neg q] at h; exact h) hK)
theorem s_lcmp_ne (o : Ok Γ own cc nL ret d) {x y : Int} {off : Int} {tgt : Nat} (hd1 : decode cc pc = .ok (.lcmp, 1)) (hd : decode cc (pc + 1) = .ok (.ifCond .ne off, 3)) (ht : ((pc + 1 : Nat) : Int) + off = (tgt : Int)) (hx : R64 x) (hy : R64 y) (kt : Sx Γ wld K tgt lv st m1) (kf : Sx Γ wld K (pc + 1 + 3) lv st m2) : Sx Γ wld K pc lv (vJ y :: vJ x :: st) (if (¬ x = y) then m1 else m2) := fun s a s1 h hK => e_lcmp_ne o hd1 hd ht hx hy (fun q => kt s a s1 (by rw [if_pos q] at h; exact h) hK) (fun q => kf s a s1 (by rw [if_neg q] at h; exact h) hK)
theorem s_lcmp_lt (o : Ok Γ own cc nL ret d) {x y : Int} {off : Int} {tgt : Nat} (hd1 : decode cc pc = .ok (.lcmp, 1)) (hd : decode cc (pc + 1) = .ok (.ifCond .lt off, 3)) (ht : ((pc + 1 : Nat) : Int) + off = (tgt : Int)) (hx : R64 x) (hy : R64 y) (kt : Sx Γ wld K tgt lv st m1) (kf : Sx Γ wld K (pc + 1 + 3) lv st m2) : Sx Γ wld K pc lv (vJ y :: vJ x :: st) (if (x < y) then m1 else m2) := fun s a s1 h hK => e_lcmp_lt o hd1 hd ht hx hy (fun q => kt s a s1 (by rw [if_pos q] at h; exact h) hK) (fun q => kf s a s1 (by rw [if_neg q] at h; exact h) hK)
theorem s_lcmp_ge (o : Ok Γ own cc nL ret d) {x y : Int} {off : Int} {tgt : Nat} (hd1 : decode cc pc = .ok (.lcmp, 1)) (hd : decode cc (pc + 1) = .ok (.ifCond .ge off, 3)) (ht : ((pc + 1 : Nat) : Int) + off = (tgt : Int)) (hx : R64 x) (hy : R64 y) (kt : Sx Γ wld K tgt lv st m1) (kf : Sx Γ wld K (pc + 1 + 3) lv st m2) : Sx Γ wld K pc lv (vJ y :: vJ x :: st) (if (y ≤ x) then m1 else m2) := fun s a s1 h hK => e_lcmp_ge o hd1 hd ht hx hy (fun q => kt s a s1 (by rw [if_pos q] at h; exact h) hK) (fun q => kf s a s1 (by rw [if_neg q] at h; exact h) hK)
theorem s_lcmp_gt (o : Ok Γ own cc nL ret d) {x y : Int} {off : Int} {tgt : Nat} (hd1 : decode cc pc = .ok (.lcmp, 1)) (hd : decode cc (pc + 1) = .ok (.ifCond .gt off, 3)) (ht : ((pc + 1 : Nat) : Int) + off = (tgt : Int)) (hx : R64 x) (hy : R64 y) (kt : Sx Γ wld K tgt lv st m1) (kf : Sx Γ wld K (pc + 1 + 3) lv st m2) : Sx Γ wld K pc lv (vJ y :: vJ x :: st) (if (y < x) then m1 else m2) := fun s a s1 h hK => e_lcmp_gt o hd1 hd ht hx hy (fun q => kt s a s1 (by rw [if_pos q] at h; exact h) hK) (fun q => kf s a s1 (by rw [if_neg q] at h; exact h) hK)
theorem s_lcmp_le (o : Ok Γ own cc nL ret d) {x y : Int} {off : Int} {tgt : Nat} (hd1 : decode cc pc = .ok (.lcmp, 1)) (hd : decode cc (pc + 1) = .ok (.ifCond .le off, 3)) (ht : ((pc + 1 : Nat) : Int) + off = (tgt : Int)) (hx : R64 x) (hy : R64 y) (kt : Sx Γ wld K tgt lv st m1) (kf : Sx Γ wld K (pc + 1 + 3) lv st m2) : Sx Γ wld K pc lv (vJ y :: vJ x :: st) (if (x ≤ y) then m1 else m2) := fun s a s1 h hK => e_lcmp_le o hd1 hd ht hx hy (fun q => kt s a s1 (by rw [if_pos q] at h; exact h) hK) (fun q => kf s a s1 (by rw [if_neg q] at h; exact h) hK)
theorem s_ifnull (o : Ok Γ own cc nL ret d) {x : Int} {off : Int} {tgt : Nat} (hd : decode cc pc = .ok (.ifnull off, 3)) (ht : (pc : Int) + off = (tgt : Int)) (kt : Sx Γ wld K tgt lv st m1) (kf : Sx Γ wld K (pc + 3) lv st m2) : Sx Γ wld K pc lv (vA (mg Γ) x :: st) (if (x = 0) then m1 else m2) := fun s a s1 h hK => e_ifnull o hd ht (fun q => kt s a s1 (by rw [if_pos q] at h; exact h) hK) (fun q => kf s a s1 (by rw [if_neg q] at h; exact h) hK)
theorem s_ifnonnull (o : Ok Γ own cc nL ret d) {x : Int} {off : Int} {tgt : Nat} (hd : decode cc pc = .ok (.ifnonnull off, 3)) (ht : (pc : Int) + off = (tgt : Int)) (kt : Sx Γ wld K tgt lv st m1) (kf : Sx Γ wld K (pc + 3) lv st m2) : Sx Γ wld K pc lv (vA (mg Γ) x :: st) (if (¬ x = 0) then m1 else m2) := fun s a s1 h hK => e_ifnonnull o hd ht (fun q => kt s a s1 (by rw [if_pos q] at h; exact h) hK) (fun q => kf s a s1 (by rw [if_neg q] at h; exact h) hK)
end
