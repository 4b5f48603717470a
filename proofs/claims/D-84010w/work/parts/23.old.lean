/-! ROWS 13: old cells: strings, statics, the empty array of a list, a class's object; dead code -/
set_option maxRecDepth 100000
def no {σ A : Type} : Mo σ A := fun _ => none
def i2b (x : Int) : Int := (cI x).toInt8.toInt32.toInt
theorem i2b_B (x : Int) : rg .byte (i2b x) := by
  have h := Int8.toInt_toInt32 (cI x).toInt8
  have h1 := (cI x).toInt8.le_toInt
  have h2 := (cI x).toInt8.toInt_lt
  show -128 ≤ (cI x).toInt8.toInt32.toInt ∧ (cI x).toInt8.toInt32.toInt ≤ 127
  rw [h]
  constructor
  · have : -2 ^ 7 ≤ (cI x).toInt8.toInt := h1
    omega
  · have : (cI x).toInt8.toInt < 2 ^ 7 := h2
    omega
theorem i2b_R (x : Int) : R32 (i2b x) := R32_to _
/-- the bytes of the array with the number a -/
def sbn (a : Int) : List Int := sby (-a - 100).toNat
def gsv (x : Int) : Mo CH Int := fun h => if -43 ≤ x ∧ x ≤ -1 then some (x - 100, h) else none
def gsc (x : Int) : Mo CH Int := fun h => if -43 ≤ x ∧ x ≤ -1 then some (0, h) else none
def bln (a : Int) : Mo CH Int := fun h => if -143 ≤ a ∧ a ≤ -101 then some (((sbn a).length : Int), h) else none
def bld (a i : Int) : Mo CH Int := fun h => if -143 ≤ a ∧ a ≤ -101 ∧ 0 ≤ i ∧ i < (sbn a).length then some ((sbn a).getD i.toNat 0, h) else none
def lnO (a : Int) : Mo CH Int := fun h => if a = -200 then some (0, h) else aln a h
def iss (x : Int) : Mo CH Unit := fun h => if -43 ≤ x ∧ x ≤ -1 then some ((), h) else none
theorem byt_R : ∀ l ∈ bytS, l.length ≤ 100 ∧ ∀ b ∈ l, (0 : Int) ≤ b ∧ b ≤ 127 := by decide +kernel
theorem sby_mem (k : Nat) : sby k = [] ∨ sby k ∈ bytS := by
  unfold sby
  by_cases h : k - 1 < bytS.length
  · right
    rw [List.getD_eq_getElem?_getD, List.getElem?_eq_getElem h]
    exact List.getElem_mem h
  · left
    rw [List.getD_eq_getElem?_getD, List.getElem?_eq_none (by omega)]
    rfl
theorem sby_len (k : Nat) : (sby k).length ≤ 100 := by
  rcases sby_mem k with h | h
  · rw [h]; exact Nat.zero_le _
  · exact (byt_R _ h).1
theorem sby_at (k j : Nat) : (0 : Int) ≤ (sby k).getD j 0 ∧ (sby k).getD j 0 ≤ 127 := by
  by_cases hj : j < (sby k).length
  · rw [List.getD_eq_getElem?_getD, List.getElem?_eq_getElem hj]
    rcases sby_mem k with h | h
    · rw [h] at hj; exact absurd hj (Nat.not_lt_zero _)
    · exact (byt_R _ h).2 _ (List.getElem_mem hj)
  · rw [List.getD_eq_getElem?_getD, List.getElem?_eq_none (by omega)]
    exact ⟨by decide, by decide⟩
theorem vA_neg {g : gC} {x : Int} (h : x < 0) : vA g x = .ref (gS g (-x).toNat) := by
  unfold vA rR
  rw [if_neg (by omega), if_neg (by omega)]
  rfl
theorem HR.old {g : gC} {w : Wd} {H : Heap} (hH : HR g w H) : ∀ a : Nat, a < (gH g).size → ¬ AB g a → H[a]? = (gH g)[a]? := fun a _ h => hH.2.1 a (Nat.le_of_not_lt h)
section
variable {A σ : Type} {Γ : Gm} {own : String} {cc : ByteArray} {nL : Nat} {ret : Option FieldType} {d : Nat} {pc : Nat} {lv : List (Nat × Value)} {st : List Value} {h : CH} {ts : TS} {a i x y : Int} {K : A → CH → Prop} {idx : Nat}
theorem Ok.ks (o : Ok Γ own cc nL ret d) : KS (mg Γ) (xS (mx Γ)) := o.ht.2.2.1.2.2.2
theorem s_no {σ : Type} {wld : σ → Wd} {K : A → σ → Prop} : Sx Γ wld K pc lv st no := fun _ _ _ h _ => by cases h
theorem s_i2b {σ : Type} {wld : σ → Wd} {K : A → σ → Prop} {m : Mo σ A} (o : Ok Γ own cc nL ret d) (hd : decode cc pc = .ok (.i2b, 1)) (k : Sx Γ wld K (pc + 1) lv (vI (i2b x) :: st) m) : Sx Γ wld K pc lv (vI x :: st) m := by
  intro s a s1 h hK H locs ls cells slots hH hl hv hc hs
  have k1 := k s a s1 h hK H locs ls cells slots hH hl hv hc hs
  unfold vI i2b at k1
  rw [Int32.ofInt_toInt] at k1
  exact lv_i2b o.hx o.hb hd rfl k1
theorem s_ldcS {σ : Type} {wld : σ → Wd} {K : A → σ → Prop} {m : Mo σ A} (o : Ok Γ own cc nL ret d) {tx : String} {k : Nat} (hq : (own, idx, tx, k) ∈ strs) (hx : x = -(k : Int)) (hk0 : 0 < k) (hd : decode cc pc = .ok (.ldc idx, 2)) (kk : Sx Γ wld K (pc + 2) lv (vA (mg Γ) x :: st) m) : Sx Γ wld K pc lv st m := by
  intro s a s1 h hK H locs ls cells slots hH hl hv hc hs
  have k1 := kk s a s1 h hK H locs ls cells slots hH hl hv hc hs
  subst hx
  rw [vA_neg (by omega), show (-(-(k : Int))).toNat = k by omega] at k1
  exact va_ldcS o.hx o.hb o.ho (o.ht.2.2.1.1 _ hq) hd k1
theorem s_ldcwS {σ : Type} {wld : σ → Wd} {K : A → σ → Prop} {m : Mo σ A} (o : Ok Γ own cc nL ret d) {tx : String} {k : Nat} (hq : (own, idx, tx, k) ∈ strs) (hx : x = -(k : Int)) (hk0 : 0 < k) (hd : decode cc pc = .ok (.ldc_w idx, 3)) (kk : Sx Γ wld K (pc + 3) lv (vA (mg Γ) x :: st) m) : Sx Γ wld K pc lv st m := by
  intro s a s1 h hK H locs ls cells slots hH hl hv hc hs T hT X
  have k1 := kk s a s1 h hK H locs ls cells slots hH hl hv hc hs
  subst hx
  rw [vA_neg (by omega), show (-(-(k : Int))).toNat = k by omega] at k1
  obtain ⟨t, a1, b1⟩ := k1 T hT X
  have hZ := o.ht.2.2.1.1 _ hq
  exact ⟨t, X.ldcStringW o.hx o.ho hZ.1 hZ.2 (g := F0 (xM (mx Γ)) pc ls st) rfl (by rw [o.hb]; exact hd) t a1, b1⟩
theorem s_ldcM {σ : Type} {wld : σ → Wd} {K : A → σ → Prop} {m : Mo σ A} (o : Ok Γ own cc nL ret d) (hw : Cond.classLink own idx "[Ljava/lang/Object;" ∈ lw_tbl) (hd : decode cc pc = .ok (.ldc idx, 2)) (kk : Sx Γ wld K (pc + 2) lv (vA (mg Γ) (-202) :: st) m) : Sx Γ wld K pc lv st m := by
  intro s a s1 h hK H locs ls cells slots hH hl hv hc hs
  have k1 := kk s a s1 h hK H locs ls cells slots hH hl hv hc hs
  rw [vA_neg (by omega)] at k1
  exact va_ldcM o.hx o.hb o.ho (o.w hw rfl) o.ks.2.2.2.2.2.2.2.1 hd k1
theorem e_gets {w : Wd} (o : Ok Γ own cc nL ret d) {C n ds : String} {v : Value} (hZ : va_Z C n ds v (AB (mg Γ)) (xS (mx Γ)) (gH (mg Γ))) (hw : Cond.fieldLink own idx C n ds ∈ lw_tbl) (hd : decode cc pc = .ok (.getstatic idx, 3)) (kk : E Γ (pc + 3) lv (v :: st) w) : E Γ pc lv st w := by
  intro H locs ls cells slots hH hl hv hc hs
  obtain ⟨cf, kf, fi, f, a, cell, h1, h2, h3, h4, h5, h6, h7, h8⟩ := hZ.kept hH.old
  exact W.gets o.hx o.hb o.ho (o.w hw rfl) h1 h2 h3 h4 h5 (fun e => by rw [e] at h6; cases h6) h7 rfl hd (kk H locs ls cells slots hH hl hv hc hs)
theorem s_gsZ {σ : Type} {wld : σ → Wd} {K : A → σ → Prop} {m : Mo σ A} (o : Ok Γ own cc nL ret d) (hw : Cond.fieldLink own idx "java/lang/String" "COMPACT_STRINGS" "Z" ∈ lw_tbl) (hd : decode cc pc = .ok (.getstatic idx, 3)) (kk : Sx Γ wld K (pc + 3) lv (vI 1 :: st) m) : Sx Γ wld K pc lv st m := fun s a s1 h hK => e_gets o o.ks.2.1 hw hd (kk s a s1 h hK)
theorem s_gsE {σ : Type} {wld : σ → Wd} {K : A → σ → Prop} {m : Mo σ A} (o : Ok Γ own cc nL ret d) (hw : Cond.fieldLink own idx "java/util/ArrayList" "DEFAULTCAPACITY_EMPTY_ELEMENTDATA" "[Ljava/lang/Object;" ∈ lw_tbl) (hd : decode cc pc = .ok (.getstatic idx, 3)) (kk : Sx Γ wld K (pc + 3) lv (vA (mg Γ) (-200) :: st) m) : Sx Γ wld K pc lv st m := fun s a s1 h hK => e_gets o o.ks.2.2.1 hw hd (by
  have k1 := kk s a s1 h hK
  rw [vA_neg (by omega)] at k1
  exact k1)
theorem s_gsv (o : Ok Γ own cc nL ret d) (hw : Cond.fieldLink own idx "java/lang/String" "value" "[B" ∈ lw_tbl) (hd : decode cc pc = .ok (.getfield idx, 3)) {m : Int → Mo CH A} (kk : ∀ v, Sx Γ (fun h => (h, ts)) K (pc + 3) lv (vA (mg Γ) v :: st) (m v)) : Sx Γ (fun h => (h, ts)) K pc lv (vA (mg Γ) x :: st) (bnd (gsv x) m) := by
  intro h b h' e hK
  obtain ⟨r, e1, e2⟩ := bnd_some e
  unfold gsv at e1
  split at e1
  · rename_i q
    cases e1
    intro H locs ls cells slots hH hlo hv1 hc hs
    have k1 := kk (x - 100) h b h' e2 hK H locs ls cells slots hH hlo hv1 hc hs
    obtain ⟨-, -, hE, -⟩ := o.ks.1 (-x).toNat (by omega) (by omega)
    rw [vA_neg (by omega), show (-(x - 100)).toNat = 100 + (-x).toNat by omega] at k1
    rw [vA_neg (by omega)]
    obtain ⟨cf, k, fi, f, cell, h1, h2, h3, h4, h5, h6⟩ := hE.kept hH.old
    exact W.getf o.hx o.hb o.ho (o.w hw rfl) h1 h2 h3 h4 (v := .ref (gS (mg Γ) (100 + (-x).toNat))) h5 rfl rfl hd k1
  · cases e1
theorem s_gsc (o : Ok Γ own cc nL ret d) (hw : Cond.fieldLink own idx "java/lang/String" "coder" "B" ∈ lw_tbl) (hd : decode cc pc = .ok (.getfield idx, 3)) {m : Int → Mo CH A} (kk : ∀ v, rg .byte v → Sx Γ (fun h => (h, ts)) K (pc + 3) lv (vI v :: st) (m v)) : Sx Γ (fun h => (h, ts)) K pc lv (vA (mg Γ) x :: st) (bnd (gsc x) m) := by
  intro h b h' e hK
  obtain ⟨r, e1, e2⟩ := bnd_some e
  unfold gsc at e1
  split at e1
  · rename_i q
    cases e1
    intro H locs ls cells slots hH hlo hv1 hc hs
    have k1 := kk 0 ⟨by decide, by decide⟩ h b h' e2 hK H locs ls cells slots hH hlo hv1 hc hs
    obtain ⟨-, hE, -, -⟩ := o.ks.1 (-x).toNat (by omega) (by omega)
    rw [vA_neg (by omega)]
    obtain ⟨cf, k, fi, f, cell, h1, h2, h3, h4, h5, h6⟩ := hE.kept hH.old
    exact W.getf o.hx o.hb o.ho (o.w hw rfl) h1 h2 h3 h4 (v := .int 0) h5 rfl rfl hd k1
  · cases e1
theorem s_bln (o : Ok Γ own cc nL ret d) (hd : decode cc pc = .ok (.arraylength, 1)) {m : Int → Mo CH A} (kk : ∀ v, (0 ≤ v ∧ v ≤ 2147483647) → Sx Γ (fun h => (h, ts)) K (pc + 1) lv (vI v :: st) (m v)) : Sx Γ (fun h => (h, ts)) K pc lv (vA (mg Γ) a :: st) (bnd (bln a) m) := by
  intro h b h' e hK
  obtain ⟨r, e1, e2⟩ := bnd_some e
  unfold bln at e1
  split at e1
  · rename_i q
    cases e1
    intro H locs ls cells slots hH hlo hv1 hc hs
    have hlen : (sbn a).length ≤ 100 := sby_len _
    have k1 := kk _ (by constructor <;> omega) h b h' e2 hK H locs ls cells slots hH hlo hv1 hc hs
    obtain ⟨-, -, -, hE⟩ := o.ks.1 (-a - 100).toNat (by omega) (by omega)
    rw [vA_neg (by omega), show (-a).toNat = 100 + (-a - 100).toNat by omega]
    obtain ⟨cell, h1, h2, h3, h4, h5, h6, h7⟩ := hE.kept hH.old
    exact W.alen (n := Int32.ofInt ((sbn a).length : Int)) o.hx o.hb h1 h2 h5 rfl rfl hd k1
  · cases e1
theorem s_bld (o : Ok Γ own cc nL ret d) (hi : R32 i) (hd : decode cc pc = .ok (.baload, 1)) {m : Int → Mo CH A} (kk : ∀ v, rg .byte v → Sx Γ (fun h => (h, ts)) K (pc + 1) lv (vI v :: st) (m v)) : Sx Γ (fun h => (h, ts)) K pc lv (vI i :: vA (mg Γ) a :: st) (bnd (bld a i) m) := by
  intro h b h' e hK
  obtain ⟨r, e1, e2⟩ := bnd_some e
  unfold bld at e1
  split at e1
  · rename_i q
    obtain ⟨q1, q2, q3, q4⟩ := q
    cases e1
    intro H locs ls cells slots hH hlo hv1 hc hs
    have hat := sby_at (-a - 100).toNat i.toNat
    have k1 := kk ((sbn a).getD i.toNat 0) ⟨by unfold sbn; omega, by unfold sbn; omega⟩ h b h' e2 hK H locs ls cells slots hH hlo hv1 hc hs
    obtain ⟨-, -, -, hE⟩ := o.ks.1 (-a - 100).toNat (by omega) (by omega)
    rw [vA_neg (by omega), show (-a).toNat = 100 + (-a - 100).toNat by omega]
    obtain ⟨cell, h1, h2, h3, h4, h5, h6, h7⟩ := hE.kept hH.old
    obtain ⟨p1, p2⟩ := ix_in q3 q4 hi
    have hlt : i.toNat < (sby (-a - 100).toNat).length := by unfold sbn at q4; omega
    exact W.bald (v := vI ((sbn a).getD i.toNat 0)) o.hx o.hb h1 h2 h3 (by
      intro z
      rcases z with z | z
      · exact p1 (Or.inl z)
      · rw [p2] at z
        omega) (by rw [p2]; exact h6 _ hlt) rfl rfl hd k1
  · cases e1
theorem s_lnO (o : Ok Γ own cc nL ret d) (hd : decode cc pc = .ok (.arraylength, 1)) {m : Int → Mo CH A} (kk : ∀ v, (0 ≤ v ∧ v ≤ 2147483647) → Sx Γ (fun h => (h, ts)) K (pc + 1) lv (vI v :: st) (m v)) : Sx Γ (fun h => (h, ts)) K pc lv (vA (mg Γ) a :: st) (bnd (lnO a) m) := by
  by_cases ha : a = -200
  · subst ha
    intro h b h' e hK
    obtain ⟨r, e1, e2⟩ := bnd_some e
    unfold lnO at e1
    rw [if_pos rfl] at e1
    cases e1
    intro H locs ls cells slots hH hlo hv1 hc hs
    have k1 := kk 0 ⟨by decide, by decide⟩ h b h' e2 hK H locs ls cells slots hH hlo hv1 hc hs
    rw [vA_neg (by omega)]
    obtain ⟨cell, h1, h2, h3, h4, h5, h6, h7⟩ := (o.ks.2.2.2.1).kept hH.old
    exact W.alen (n := 0) o.hx o.hb h1 h2 h5 rfl rfl hd k1
  · have : lnO a = aln a := by
      funext h
      unfold lnO
      rw [if_neg ha]
    rw [this]
    exact s_alen o hd kk
/-- a string as a receiver -/
theorem rc_s (o : Ok Γ own cc nL ret d) {h : CH} (hx : -43 ≤ x ∧ x ≤ -1) : RC Γ (h, ts) x "java/lang/String" := by
  refine ⟨_, vA_neg (by omega), fun H hH => ?_⟩
  obtain ⟨hE, -⟩ := o.ks.1 (-x).toNat (by omega) (by omega)
  obtain ⟨cell, h1, h2, h3, h4⟩ := hE.kept hH.old
  exact ⟨cell, h1, h2, h3⟩
/-- two references of which one number is told twice -/
theorem s_acmpS_ne {σ : Type} {wld : σ → Wd} {K : A → σ → Prop} {m : Mo σ A} (o : Ok Γ own cc nL ret d) {off : Int} {tgt : Nat} (hd : decode cc pc = .ok (.if_acmp .ne off, 3)) (ht : (pc : Int) + off = (tgt : Int)) (kf : Sx Γ wld K (pc + 3) lv st m) : Sx Γ wld K pc lv (vA (mg Γ) y :: vA (mg Γ) x :: st) (fun s => if x = y then m s else none) := by
  intro s b s' e hK
  by_cases q : x = y
  · subst q
    have e : m s = some (b, s') := by
      have : (if x = x then m s else none) = some (b, s') := e
      rw [if_pos rfl] at this
      exact this
    intro H locs ls cells slots hH hlo hv1 hc hs
    exact lv_acmp_ne o.hx o.hb hd ht (fun z => absurd rfl z) (fun _ => kf s b s' e hK H locs ls cells slots hH hlo hv1 hc hs)
  · have : (if x = y then m s else none) = some (b, s') := e
    rw [if_neg q] at this
    cases this
end
section
variable {A : Type} {Γ : Gm} {own : String} {cc bytes : ByteArray} {nL maxL : Nat} {ret rt : Option FieldType} {d : Nat} {pc : Nat} {lv : List (Nat × Value)} {st stk As : List Value} {ts : TS} {K : A → CH → Prop} {F : Mo CH Int} {mk : Int → Mo CH A} {y x0 : MethodName} {hw : Cond} {idx n na : Nat} {x : Int} {rs : Int → List Value}
/-- a call of a string's own method -/
theorem s_cvS (o : Ok Γ own cc nL ret (d + 1)) (hF : SF (mg Γ) y hw rt d (vA (mg Γ) x :: As) (fun h => (h, ts)) F) (hm : MW y hw bytes maxL rt na) (hna : As.length = na) (hlk : (Cond.methodLink own idx y ∈ lw_tbl ∨ ∃ host, Cond.methodLinkNest own idx y host ∈ lw_tbl)) (hsel : Cond.selects "java/lang/String" y y ∈ lw_tbl) (hin : Cond.instanceMethod y ∈ lw_tbl) (hwt : wt st n) (hn8 : Nat.ble n 8 = true) (hd : decode cc pc = .ok (.invokevirtual idx, 3)) (hstk : As.reverse ++ vA (mg Γ) x :: st = stk) (hrs : ∀ r, (rt.map fun ty => enc (mg Γ) ty r).toList ++ st = rs r)
    (kk : ∀ r, (∀ ty, rt = some ty → rg ty r) → Sx Γ (fun h => (h, ts)) K (pc + 3) lv (rs r) (mk r)) : Sx Γ (fun h => (h, ts)) K pc lv stk (bnd (iss x) fun _ => bnd F mk) := by
  intro s a s' e hK
  obtain ⟨u, e0, e⟩ := bnd_some e
  unfold iss at e0
  split at e0
  · rename_i q
    cases e0
    obtain ⟨⟨r, s1⟩, e1, e2⟩ := bnd_some e
    obtain ⟨m1, m2, m3, m4, m5⟩ := hm
    rw [← hstk]
    exact e_cv o m1 (hF s r s1 e1) m2 m3 hlk hsel hin (rc_s o q) ⟨m4, by rw [hna]; exact m5⟩ hwt hn8 hd (fun hr => by rw [hrs]; exact kk r hr s1 a s' e2 hK)
  · cases e0
/-- getClass of an array of objects -/
theorem s_getC {a : Int} (o : Ok Γ own cc nL ret (d + 1)) (hlink : Cond.methodLink own idx ⟨"java/lang/Object", "getClass", "()Ljava/lang/Class;"⟩ ∈ lw_tbl) (hdecl : Cond.declares ⟨"java/lang/Object", "getClass", "()Ljava/lang/Class;"⟩ ∈ lw_tbl) (hsel : Cond.selects "[Ljava/lang/Object;" ⟨"java/lang/Object", "getClass", "()Ljava/lang/Class;"⟩ ⟨"java/lang/Object", "getClass", "()Ljava/lang/Class;"⟩ ∈ lw_tbl) (hinst : Cond.instanceMethod ⟨"java/lang/Object", "getClass", "()Ljava/lang/Class;"⟩ ∈ lw_tbl) (hnat : Cond.native ⟨"java/lang/Object", "getClass", "()Ljava/lang/Class;"⟩ ∈ lw_tbl) (hwt : wt st n) (hn8 : Nat.ble n 8 = true) (hd : decode cc pc = .ok (.invokevirtual idx, 3)) {m : Mo CH A} 
    (kk : Sx Γ (fun h => (h, ts)) K (pc + 3) lv (vA (mg Γ) (-202) :: st) m) : Sx Γ (fun h => (h, ts)) K pc lv (vA (mg Γ) a :: st) (bnd (isk 10 a) fun _ => m) := by
  intro s b s' e hK
  obtain ⟨u, e0, e⟩ := bnd_some e
  unfold isk at e0
  split at e0
  · rename_i q
    cases e0
    intro H locs ls cells slots hH hlo hv1 hc hs
    have k1 := kk s b s' e hK H locs ls cells slots hH hlo hv1 hc hs
    obtain ⟨c1, -⟩ := hH.ar q.1 q.2.1 q.2.2 (by decide)
    rw [vA_neg (by omega)] at k1
    rw [vA_pos q.1]
    have hra := o.ra (kd := 10) (by decide)
    have hRR := o.hR
    refine va_getC o.hx o.hb (by rw [o.hm, ← o.hL]; exact hv1.1.symm) o.ho (o.w hlink rfl) (o.w hdecl rfl) (o.w hsel rfl) (o.w hinst rfl) (o.w hnat rfl) o.ks.2.2.2.2.2.2.2.1 ⟨_, c1, rfl, hra⟩ (by rw [hRR]; show 1 ≤ d + 1; omega) ?_ hd k1
    rw [hRR]
    have : (st.map fun v => v.category).sum ≤ 8 := Nat.le_trans hwt (Nat.le_of_ble_eq_true hn8)
    show _ + _ ≤ 46 * (d + 1) + 192
    omega
  · cases e0
end
