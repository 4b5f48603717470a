/-! ROWS 4: arrays; the twin's cells -/
set_option maxRecDepth 100000
theorem ix_in {i : Int} {n : Nat} (h0 : 0 ≤ i) (h1 : i < n) (hr : R32 i) : ¬ (Int32.ofInt i < 0 ∨ n ≤ (Int32.ofInt i).toNatClampNeg) ∧ (Int32.ofInt i).toNatClampNeg = i.toNat := by
  have e := w32_eq hr
  unfold w32 at e
  have e2 : (Int32.ofInt i).toNatClampNeg = i.toNat := by
    unfold Int32.toNatClampNeg
    rw [e]
  refine ⟨?_, e2⟩
  rintro (q | q)
  · rw [Int32.lt_iff_toInt_lt, e] at q
    have : (0 : Int32).toInt = 0 := rfl
    omega
  · omega
def ald (kd : Nat) (a i : Int) : Mo CH Int := fun h => if 0 < a ∧ a ≤ hn h ∧ hk h a = kd ∧ 0 ≤ i ∧ i < hl h a then some (hv h a i, h) else none
def ast (kd : Nat) (a i v : Int) : Mo CH Unit := fun h => if 0 < a ∧ a ≤ hn h ∧ hk h a = kd ∧ 0 ≤ i ∧ i < hl h a then some ((), hset h a i v) else none
def aln (a : Int) : Mo CH Int := fun h => if 0 < a ∧ a ≤ hn h ∧ hk h a < 11 then some ((hl h a : Int), h) else none
theorem aty_ref {kd : Nat} (h : 5 ≤ kd ∧ kd < 11) : (aty kd).isReference = true := by
  have : kd = 5 ∨ kd = 6 ∨ kd = 7 ∨ kd = 8 ∨ kd = 9 ∨ kd = 10 := by omega
  rcases this with rfl | rfl | rfl | rfl | rfl | rfl <;> rfl
section
variable {A : Type} {Γ : Gm} {own : String} {cc : ByteArray} {nL : Nat} {ret : Option FieldType} {d : Nat} {pc : Nat} {lv : List (Nat × Value)} {st : List Value} {h : CH} {ts : TS} {a i v : Int} {kd : Nat} {K : A → CH → Prop}
theorem Ok.arr (o : Ok Γ own cc nL ret d) {kd : Nat} (hk : kd < 11) (n : Nat) (f : Nat → Value) : (xS (mx Γ)).isArrayOf (arrV (gA (mg Γ) kd) n f) (aty kd) := (o.ht.2.1.2 kd _ (wtys_at _ hk)).1 n f
theorem s_iaload (o : Ok Γ own cc nL ret d) (hkd : kd = 0) (hi : R32 i) (hd : decode cc pc = .ok (.iaload, 1)) {m : Int → Mo CH A}
    (kk : ∀ v, rg (aty kd) v → Sx Γ (fun h => (h, ts)) K (pc + 1) lv (enc (mg Γ) (aty kd) v :: st) (m v)) : Sx Γ (fun h => (h, ts)) K pc lv (vI i :: vA (mg Γ) a :: st) (bnd (ald kd a i) m) := by
  intro h b h' e hK
  obtain ⟨r, e1, e2⟩ := bnd_some e
  unfold ald at e1
  split at e1
  · rename_i q
    obtain ⟨q1, q2, q3, q4, q5⟩ := q
    cases e1
    intro H locs ls cells slots hH hlo hv1 hc hs
    obtain ⟨c1, c2, c3⟩ := hH.ar q1 q2 q3 (by omega)
    have k1 := kk _ (c3 i) h b h' e2 hK H locs ls cells slots hH hlo hv1 hc hs
    obtain ⟨p1, p2⟩ := ix_in q4 q5 hi
    rw [vA_pos q1]
    have hlt : i.toNat < hl h a := by omega
    have hrd := arrV_read (gA (mg Γ) kd) (N := hl h a) (fun j => enc (mg Γ) (aty kd) (hv h a j)) hlt
    rw [show ((i.toNat : Nat) : Int) = i by omega] at hrd
    subst hkd
    exact W.iald o.hx o.hb c1 (o.arr (kd := 0) (by omega) _ _) (fun q => by cases q) (by rw [arrV_size]; exact p1) (by rw [p2]; exact hrd) rfl rfl hd k1
  · cases e1
theorem s_laload (o : Ok Γ own cc nL ret d) (hkd : kd = 1) (hi : R32 i) (hd : decode cc pc = .ok (.laload, 1)) {m : Int → Mo CH A}
    (kk : ∀ v, rg (aty kd) v → Sx Γ (fun h => (h, ts)) K (pc + 1) lv (enc (mg Γ) (aty kd) v :: st) (m v)) : Sx Γ (fun h => (h, ts)) K pc lv (vI i :: vA (mg Γ) a :: st) (bnd (ald kd a i) m) := by
  intro h b h' e hK
  obtain ⟨r, e1, e2⟩ := bnd_some e
  unfold ald at e1
  split at e1
  · rename_i q
    obtain ⟨q1, q2, q3, q4, q5⟩ := q
    cases e1
    intro H locs ls cells slots hH hlo hv1 hc hs
    obtain ⟨c1, c2, c3⟩ := hH.ar q1 q2 q3 (by omega)
    have k1 := kk _ (c3 i) h b h' e2 hK H locs ls cells slots hH hlo hv1 hc hs
    obtain ⟨p1, p2⟩ := ix_in q4 q5 hi
    rw [vA_pos q1]
    have hlt : i.toNat < hl h a := by omega
    have hrd := arrV_read (gA (mg Γ) kd) (N := hl h a) (fun j => enc (mg Γ) (aty kd) (hv h a j)) hlt
    rw [show ((i.toNat : Nat) : Int) = i by omega] at hrd
    subst hkd
    exact W.lald o.hx o.hb c1 (o.arr (kd := 1) (by omega) _ _) (fun q => by cases q) (by rw [arrV_size]; exact p1) (by rw [p2]; exact hrd) rfl rfl hd k1
  · cases e1
theorem s_caload (o : Ok Γ own cc nL ret d) (hkd : kd = 2) (hi : R32 i) (hd : decode cc pc = .ok (.caload, 1)) {m : Int → Mo CH A}
    (kk : ∀ v, rg (aty kd) v → Sx Γ (fun h => (h, ts)) K (pc + 1) lv (enc (mg Γ) (aty kd) v :: st) (m v)) : Sx Γ (fun h => (h, ts)) K pc lv (vI i :: vA (mg Γ) a :: st) (bnd (ald kd a i) m) := by
  intro h b h' e hK
  obtain ⟨r, e1, e2⟩ := bnd_some e
  unfold ald at e1
  split at e1
  · rename_i q
    obtain ⟨q1, q2, q3, q4, q5⟩ := q
    cases e1
    intro H locs ls cells slots hH hlo hv1 hc hs
    obtain ⟨c1, c2, c3⟩ := hH.ar q1 q2 q3 (by omega)
    have k1 := kk _ (c3 i) h b h' e2 hK H locs ls cells slots hH hlo hv1 hc hs
    obtain ⟨p1, p2⟩ := ix_in q4 q5 hi
    rw [vA_pos q1]
    have hlt : i.toNat < hl h a := by omega
    have hrd := arrV_read (gA (mg Γ) kd) (N := hl h a) (fun j => enc (mg Γ) (aty kd) (hv h a j)) hlt
    rw [show ((i.toNat : Nat) : Int) = i by omega] at hrd
    subst hkd
    exact W.cald o.hx o.hb c1 (o.arr (kd := 2) (by omega) _ _) (fun q => by cases q) (by rw [arrV_size]; exact p1) (by rw [p2]; exact hrd) rfl rfl hd k1
  · cases e1
theorem s_zaload (o : Ok Γ own cc nL ret d) (hkd : kd = 3) (hi : R32 i) (hd : decode cc pc = .ok (.baload, 1)) {m : Int → Mo CH A}
    (kk : ∀ v, rg (aty kd) v → Sx Γ (fun h => (h, ts)) K (pc + 1) lv (enc (mg Γ) (aty kd) v :: st) (m v)) : Sx Γ (fun h => (h, ts)) K pc lv (vI i :: vA (mg Γ) a :: st) (bnd (ald kd a i) m) := by
  intro h b h' e hK
  obtain ⟨r, e1, e2⟩ := bnd_some e
  unfold ald at e1
  split at e1
  · rename_i q
    obtain ⟨q1, q2, q3, q4, q5⟩ := q
    cases e1
    intro H locs ls cells slots hH hlo hv1 hc hs
    obtain ⟨c1, c2, c3⟩ := hH.ar q1 q2 q3 (by omega)
    have k1 := kk _ (c3 i) h b h' e2 hK H locs ls cells slots hH hlo hv1 hc hs
    obtain ⟨p1, p2⟩ := ix_in q4 q5 hi
    rw [vA_pos q1]
    have hlt : i.toNat < hl h a := by omega
    have hrd := arrV_read (gA (mg Γ) kd) (N := hl h a) (fun j => enc (mg Γ) (aty kd) (hv h a j)) hlt
    rw [show ((i.toNat : Nat) : Int) = i by omega] at hrd
    subst hkd
    exact W.zald o.hx o.hb c1 (o.arr (kd := 3) (by omega) _ _) (fun q => by cases q) (by rw [arrV_size]; exact p1) (by rw [p2]; exact hrd) rfl rfl hd k1
  · cases e1
theorem s_baload (o : Ok Γ own cc nL ret d) (hkd : kd = 4) (hi : R32 i) (hd : decode cc pc = .ok (.baload, 1)) {m : Int → Mo CH A}
    (kk : ∀ v, rg (aty kd) v → Sx Γ (fun h => (h, ts)) K (pc + 1) lv (enc (mg Γ) (aty kd) v :: st) (m v)) : Sx Γ (fun h => (h, ts)) K pc lv (vI i :: vA (mg Γ) a :: st) (bnd (ald kd a i) m) := by
  intro h b h' e hK
  obtain ⟨r, e1, e2⟩ := bnd_some e
  unfold ald at e1
  split at e1
  · rename_i q
    obtain ⟨q1, q2, q3, q4, q5⟩ := q
    cases e1
    intro H locs ls cells slots hH hlo hv1 hc hs
    obtain ⟨c1, c2, c3⟩ := hH.ar q1 q2 q3 (by omega)
    have k1 := kk _ (c3 i) h b h' e2 hK H locs ls cells slots hH hlo hv1 hc hs
    obtain ⟨p1, p2⟩ := ix_in q4 q5 hi
    rw [vA_pos q1]
    have hlt : i.toNat < hl h a := by omega
    have hrd := arrV_read (gA (mg Γ) kd) (N := hl h a) (fun j => enc (mg Γ) (aty kd) (hv h a j)) hlt
    rw [show ((i.toNat : Nat) : Int) = i by omega] at hrd
    subst hkd
    exact W.bald o.hx o.hb c1 (o.arr (kd := 4) (by omega) _ _) (fun q => by cases q) (by rw [arrV_size]; exact p1) (by rw [p2]; exact hrd) rfl rfl hd k1
  · cases e1
theorem s_aaload (o : Ok Γ own cc nL ret d) (hkd : 5 ≤ kd ∧ kd < 11) (hi : R32 i) (hd : decode cc pc = .ok (.aaload, 1)) {m : Int → Mo CH A}
    (kk : ∀ v, rg (aty kd) v → Sx Γ (fun h => (h, ts)) K (pc + 1) lv (enc (mg Γ) (aty kd) v :: st) (m v)) : Sx Γ (fun h => (h, ts)) K pc lv (vI i :: vA (mg Γ) a :: st) (bnd (ald kd a i) m) := by
  intro h b h' e hK
  obtain ⟨r, e1, e2⟩ := bnd_some e
  unfold ald at e1
  split at e1
  · rename_i q
    obtain ⟨q1, q2, q3, q4, q5⟩ := q
    cases e1
    intro H locs ls cells slots hH hlo hv1 hc hs
    obtain ⟨c1, c2, c3⟩ := hH.ar q1 q2 q3 (by omega)
    have k1 := kk _ (c3 i) h b h' e2 hK H locs ls cells slots hH hlo hv1 hc hs
    obtain ⟨p1, p2⟩ := ix_in q4 q5 hi
    rw [vA_pos q1]
    have hlt : i.toNat < hl h a := by omega
    have hrd := arrV_read (gA (mg Γ) kd) (N := hl h a) (fun j => enc (mg Γ) (aty kd) (hv h a j)) hlt
    rw [show ((i.toNat : Nat) : Int) = i by omega] at hrd
    exact W.aald (ty := aty kd) o.hx o.hb c1 (o.arr (kd := kd) (by omega) _ _) (aty_ref hkd) (fun q => by cases q) (by rw [arrV_size]; exact p1) (by rw [p2]; exact hrd) rfl rfl hd k1
  · cases e1
theorem s_iastore (o : Ok Γ own cc nL ret d) (hi : R32 i) (hv0 : rg (aty 0) v) (hd : decode cc pc = .ok (.iastore, 1)) {m : Mo CH A}
    (kk : Sx Γ (fun h => (h, ts)) K (pc + 1) lv st m) : Sx Γ (fun h => (h, ts)) K pc lv (enc (mg Γ) (aty 0) v :: vI i :: vA (mg Γ) a :: st) (bnd (ast 0 a i v) fun _ => m) := by
  intro h b h' e hK
  obtain ⟨r, e1, e2⟩ := bnd_some e
  unfold ast at e1
  split at e1
  · rename_i q
    obtain ⟨q1, q2, q3, q4, q5⟩ := q
    cases e1
    intro H locs ls cells slots hH hlo hv1 hc hs
    obtain ⟨c1, c2, c3⟩ := hH.ar q1 q2 q3 (by omega)
    obtain ⟨p1, p2⟩ := ix_in q4 q5 hi
    rw [vA_pos q1]
    refine W.iast o.hx o.hb c1 (o.arr (kd := 0) (by omega) _ _) (fun q => by cases q) (by rw [arrV_size]; exact p1) rfl rfl hd (fun H1 f1 f2 f3 => ?_)
    rw [p2] at f1 ⊢
    refine kk _ b h' e2 hK H1 _ ls cells slots (hH.setA q1 q2 q3 (by omega) q4 hv0 (fun q => absurd q (by decide)) f1 f2 f3) ?_ hv1 hc hs
    intro q hq
    rcases List.mem_append.mp hq with hq | hq
    · exact hlo q hq
    · rw [List.mem_singleton.mp hq]; show gB (mg Γ) < gB (mg Γ) + a.toNat; omega
  · cases e1
theorem s_lastore (o : Ok Γ own cc nL ret d) (hi : R32 i) (hv0 : rg (aty 1) v) (hd : decode cc pc = .ok (.lastore, 1)) {m : Mo CH A}
    (kk : Sx Γ (fun h => (h, ts)) K (pc + 1) lv st m) : Sx Γ (fun h => (h, ts)) K pc lv (enc (mg Γ) (aty 1) v :: vI i :: vA (mg Γ) a :: st) (bnd (ast 1 a i v) fun _ => m) := by
  intro h b h' e hK
  obtain ⟨r, e1, e2⟩ := bnd_some e
  unfold ast at e1
  split at e1
  · rename_i q
    obtain ⟨q1, q2, q3, q4, q5⟩ := q
    cases e1
    intro H locs ls cells slots hH hlo hv1 hc hs
    obtain ⟨c1, c2, c3⟩ := hH.ar q1 q2 q3 (by omega)
    obtain ⟨p1, p2⟩ := ix_in q4 q5 hi
    rw [vA_pos q1]
    refine W.last o.hx o.hb c1 (o.arr (kd := 1) (by omega) _ _) (fun q => by cases q) (by rw [arrV_size]; exact p1) rfl rfl hd (fun H1 f1 f2 f3 => ?_)
    rw [p2] at f1 ⊢
    refine kk _ b h' e2 hK H1 _ ls cells slots (hH.setA q1 q2 q3 (by omega) q4 hv0 (fun q => absurd q (by decide)) f1 f2 f3) ?_ hv1 hc hs
    intro q hq
    rcases List.mem_append.mp hq with hq | hq
    · exact hlo q hq
    · rw [List.mem_singleton.mp hq]; show gB (mg Γ) < gB (mg Γ) + a.toNat; omega
  · cases e1
theorem s_castore (o : Ok Γ own cc nL ret d) (hi : R32 i) (hv0 : rg (aty 2) v) (hd : decode cc pc = .ok (.castore, 1)) {m : Mo CH A}
    (kk : Sx Γ (fun h => (h, ts)) K (pc + 1) lv st m) : Sx Γ (fun h => (h, ts)) K pc lv (enc (mg Γ) (aty 2) v :: vI i :: vA (mg Γ) a :: st) (bnd (ast 2 a i v) fun _ => m) := by
  intro h b h' e hK
  obtain ⟨r, e1, e2⟩ := bnd_some e
  unfold ast at e1
  split at e1
  · rename_i q
    obtain ⟨q1, q2, q3, q4, q5⟩ := q
    cases e1
    intro H locs ls cells slots hH hlo hv1 hc hs
    obtain ⟨c1, c2, c3⟩ := hH.ar q1 q2 q3 (by omega)
    obtain ⟨p1, p2⟩ := ix_in q4 q5 hi
    rw [vA_pos q1]
    refine W.cast o.hx o.hb c1 (o.arr (kd := 2) (by omega) _ _) (fun q => by cases q) (by rw [arrV_size]; exact p1) rfl rfl hd (fun H1 f1 f2 f3 => ?_)
    rw [p2] at f1 ⊢
    have en := (enc_ok (mg Γ) (aty 2) hv0 (fun z => by cases z) (fun z => by cases z) (fun z => by cases z)).1
    have f1 : H1[gB (mg Γ) + a.toNat]? = some ((arrV (gA (mg Γ) 2) (hl h a) (fun j => enc (mg Γ) (aty 2) (hv h a j))).setSlot i.toNat (enc (mg Γ) (aty 2) v)) := by rw [← en]; exact f1
    refine kk _ b h' e2 hK H1 _ ls cells slots (hH.setA q1 q2 q3 (by omega) q4 hv0 (fun q => absurd q (by decide)) f1 f2 f3) ?_ hv1 hc hs
    intro q hq
    rcases List.mem_append.mp hq with hq | hq
    · exact hlo q hq
    · rw [List.mem_singleton.mp hq]; show gB (mg Γ) < gB (mg Γ) + a.toNat; omega
  · cases e1
theorem s_zastore (o : Ok Γ own cc nL ret d) (hi : R32 i) (hv0 : rg (aty 3) v) (hd : decode cc pc = .ok (.bastore, 1)) {m : Mo CH A}
    (kk : Sx Γ (fun h => (h, ts)) K (pc + 1) lv st m) : Sx Γ (fun h => (h, ts)) K pc lv (enc (mg Γ) (aty 3) v :: vI i :: vA (mg Γ) a :: st) (bnd (ast 3 a i v) fun _ => m) := by
  intro h b h' e hK
  obtain ⟨r, e1, e2⟩ := bnd_some e
  unfold ast at e1
  split at e1
  · rename_i q
    obtain ⟨q1, q2, q3, q4, q5⟩ := q
    cases e1
    intro H locs ls cells slots hH hlo hv1 hc hs
    obtain ⟨c1, c2, c3⟩ := hH.ar q1 q2 q3 (by omega)
    obtain ⟨p1, p2⟩ := ix_in q4 q5 hi
    rw [vA_pos q1]
    refine W.zast o.hx o.hb c1 (o.arr (kd := 3) (by omega) _ _) (fun q => by cases q) (by rw [arrV_size]; exact p1) rfl rfl hd (fun H1 f1 f2 f3 => ?_)
    rw [p2] at f1 ⊢
    have en := (enc_ok (mg Γ) (aty 3) hv0 (fun z => by cases z) (fun z => by cases z) (fun z => by cases z)).1
    have f1 : H1[gB (mg Γ) + a.toNat]? = some ((arrV (gA (mg Γ) 3) (hl h a) (fun j => enc (mg Γ) (aty 3) (hv h a j))).setSlot i.toNat (enc (mg Γ) (aty 3) v)) := by rw [← en]; exact f1
    refine kk _ b h' e2 hK H1 _ ls cells slots (hH.setA q1 q2 q3 (by omega) q4 hv0 (fun q => absurd q (by decide)) f1 f2 f3) ?_ hv1 hc hs
    intro q hq
    rcases List.mem_append.mp hq with hq | hq
    · exact hlo q hq
    · rw [List.mem_singleton.mp hq]; show gB (mg Γ) < gB (mg Γ) + a.toNat; omega
  · cases e1
theorem s_bastore (o : Ok Γ own cc nL ret d) (hi : R32 i) (hv0 : rg (aty 4) v) (hd : decode cc pc = .ok (.bastore, 1)) {m : Mo CH A}
    (kk : Sx Γ (fun h => (h, ts)) K (pc + 1) lv st m) : Sx Γ (fun h => (h, ts)) K pc lv (enc (mg Γ) (aty 4) v :: vI i :: vA (mg Γ) a :: st) (bnd (ast 4 a i v) fun _ => m) := by
  intro h b h' e hK
  obtain ⟨r, e1, e2⟩ := bnd_some e
  unfold ast at e1
  split at e1
  · rename_i q
    obtain ⟨q1, q2, q3, q4, q5⟩ := q
    cases e1
    intro H locs ls cells slots hH hlo hv1 hc hs
    obtain ⟨c1, c2, c3⟩ := hH.ar q1 q2 q3 (by omega)
    obtain ⟨p1, p2⟩ := ix_in q4 q5 hi
    rw [vA_pos q1]
    refine W.bast o.hx o.hb c1 (o.arr (kd := 4) (by omega) _ _) (fun q => by cases q) (by rw [arrV_size]; exact p1) rfl rfl hd (fun H1 f1 f2 f3 => ?_)
    rw [p2] at f1 ⊢
    have en := (enc_ok (mg Γ) (aty 4) hv0 (fun z => by cases z) (fun z => by cases z) (fun z => by cases z)).1
    have f1 : H1[gB (mg Γ) + a.toNat]? = some ((arrV (gA (mg Γ) 4) (hl h a) (fun j => enc (mg Γ) (aty 4) (hv h a j))).setSlot i.toNat (enc (mg Γ) (aty 4) v)) := by rw [← en]; exact f1
    refine kk _ b h' e2 hK H1 _ ls cells slots (hH.setA q1 q2 q3 (by omega) q4 hv0 (fun q => absurd q (by decide)) f1 f2 f3) ?_ hv1 hc hs
    intro q hq
    rcases List.mem_append.mp hq with hq | hq
    · exact hlo q hq
    · rw [List.mem_singleton.mp hq]; show gB (mg Γ) < gB (mg Γ) + a.toNat; omega
  · cases e1
theorem s_alen (o : Ok Γ own cc nL ret d) (hd : decode cc pc = .ok (.arraylength, 1)) {m : Int → Mo CH A}
    (kk : ∀ v, (0 ≤ v ∧ v ≤ 2147483647) → Sx Γ (fun h => (h, ts)) K (pc + 1) lv (vI v :: st) (m v)) : Sx Γ (fun h => (h, ts)) K pc lv (vA (mg Γ) a :: st) (bnd (aln a) m) := by
  intro h b h' e hK
  obtain ⟨r, e1, e2⟩ := bnd_some e
  unfold aln at e1
  split at e1
  · rename_i q
    obtain ⟨q1, q2, q3⟩ := q
    cases e1
    intro H locs ls cells slots hH hlo hv1 hc hs
    obtain ⟨c1, c2, c3⟩ := hH.ar q1 q2 rfl (by show hk h a < 99; omega)
    have c2 : hl h a ≤ 2147483647 := c2
    have k1 := kk _ (by constructor <;> omega) h b h' e2 hK H locs ls cells slots hH hlo hv1 hc hs
    rw [vA_pos q1]
    refine W.alen (n := Int32.ofInt (hl h a)) o.hx o.hb c1 (o.arr q3 _ _) ?_ rfl rfl hd k1
    rw [arrV_size]
    rfl
  · cases e1
end
/-! the twin -/
def gs (k : Nat) : Mo TS Int := fun t => some (t k 0, t)
def ss (k : Nat) (v : Int) : Mo TS Unit := fun t => some ((), upd2 t k 0 v)
def rd (k : Nat) (n : Int) (i : Int) : Mo TS Int := fun t => if 0 ≤ i ∧ i < n then some (t k i, t) else none
def wr (k : Nat) (n : Int) (i v : Int) : Mo TS Unit := fun t => if 0 ≤ i ∧ i < n then some ((), upd2 t k i v) else none
/-- the twin's cells are there -/
def HT (h : CH) : Prop := t0 + 77 ≤ hn h ∧ (∀ j : Nat, j ≤ 77 → hk h ((t0 + j : Nat) : Int) = 99) ∧ ∀ x : Int, 0 < x → x ≤ hn h → hk h x = 99 → (t0 : Int) ≤ x ∧ x ≤ t0 + 77
theorem tq_inj : ∀ j, j < 77 → tj (tq (j + 1)).1 = j + 1 ∧ (tq (j + 1)).1 < 136 := by decide +kernel
theorem tj_le : ∀ k, k < 136 → tj k ≤ 77 ∧ (tj k ≠ 0 → (tq (tj k)).1 = k) := by decide +kernel
section
variable {g : gC} {h : CH} {t : TS} {H H1 : Heap}
theorem HR.to (hH : HR g (h, t) H) (hT : HT h) : t_OB (gB g + t0) ((gD g).1 11) 136 ((gD g).2 11) H (tV g t) ∧ ∀ k : Nat, k < 136 → tj k = 0 → rg (tyX11 k) (t k 0) := by
  obtain ⟨a, b⟩ := hH.2.2.2.2 (t0 : Int) (by decide) (by have := hT.1; show (t0 : Int) ≤ (hn h : Nat); omega)
  have e : hk h (t0 : Int) = 99 := hT.2.1 0 (by omega)
  unfold cAt at a
  unfold cR at b
  rw [if_pos e, if_pos rfl] at a b
  exact ⟨a, b⟩
theorem HR.ta (hH : HR g (h, t) H) (hT : HT h) {k j : Nat} (hj : tj k = j + 1) (hk1 : k < 136) : H[gB g + (t0 + (j + 1))]? = some (arrV (gA g (tq (j + 1)).2.1) (tq (j + 1)).2.2 (fun i => enc g (aty (tq (j + 1)).2.1) (t k i))) ∧ ∀ i : Int, rg (aty (tq (j + 1)).2.1) (t k i) := by
  have hle := tj_le k hk1
  have hj1 : j + 1 ≤ 77 := by omega
  have hf : (tq (j + 1)).1 = k := by rw [← hj]; exact hle.2 (by omega)
  obtain ⟨a, b⟩ := hH.2.2.2.2 ((t0 + (j + 1) : Nat) : Int) (by unfold t0; omega) (by have := hT.1; show ((t0 + (j + 1) : Nat) : Int) ≤ (hn h : Nat); omega)
  have e : hk h ((t0 + (j + 1) : Nat) : Int) = 99 := hT.2.1 (j + 1) (by omega)
  unfold cAt at a
  unfold cR at b
  rw [if_pos e, if_neg (by unfold t0; omega)] at a b
  have e2 : ((t0 + (j + 1) : Nat) : Int).toNat = t0 + (j + 1) := by omega
  rw [e2, show t0 + (j + 1) - t0 = j + 1 by omega] at a
  rw [e2, show t0 + (j + 1) - t0 = j + 1 by omega] at b
  rw [hf] at a b
  exact ⟨a, b⟩
theorem tcell_ne {k : Nat} {i v y : Int} {j0 : Nat} (hj0 : tj k = j0) (hk1 : k < 136) (hy : y ≠ ((t0 + j0 : Nat) : Int)) (hT : HT h) (hi : j0 = 0 → i = 0) (y0 : 0 < y) (hy77 : hk h y = 99 → y.toNat - t0 ≤ 77 ∧ t0 ≤ y.toNat) (H2 : Heap) (e : H2[gB g + y.toNat]? = H[gB g + y.toNat]?) (a : cAt g (h, t) y H) : cAt g (h, upd2 t k i v) y H2 := by
  unfold cAt at a ⊢
  by_cases q1 : hk h y = 99
  · rw [if_pos q1] at a ⊢
    by_cases q2 : y = (t0 : Int)
    · rw [if_pos q2] at a ⊢
      refine t_OB.to (a.kept e) (fun k' hk' => ?_)
      show tV g t k' = tV g (upd2 t k i v) k'
      unfold tV
      by_cases q3 : tj k' = 0
      · rw [if_pos q3, if_pos q3, upd2_ni]
        rintro ⟨z1, z2⟩
        have : k' = k := by omega
        subst this
        apply hy
        rw [q2, ← hj0, q3]
        rfl
      · rw [if_neg q3, if_neg q3]
    · rw [if_neg q2] at a ⊢
      rw [e]
      have : upd2 t k i v (tq (y.toNat - t0)).1 = t (tq (y.toNat - t0)).1 := by
        apply upd2_ne
        intro z
        obtain ⟨w1, w2⟩ := hy77 q1
        obtain ⟨j, hj⟩ : ∃ j, y.toNat - t0 = j + 1 := ⟨y.toNat - t0 - 1, by omega⟩
        have := tq_inj j (by omega)
        rw [hj] at z
        have z2 : (tq (j + 1)).1 = k := by omega
        rw [z2, hj0] at this
        omega
      show _ = some (arrV _ _ (fun i' => enc g _ (upd2 t k i v (tq (y.toNat - t0)).1 i')))
      rw [this]
      exact a
  · rw [if_neg q1] at a ⊢
    by_cases q2 : hk h y < 99
    · rw [if_pos q2] at a ⊢
      rw [e]; exact a
    · rw [if_neg q2] at a ⊢
      exact a.kept e
theorem tR_ne {k : Nat} {i v y : Int} {j0 : Nat} (hj0 : tj k = j0) (hk1 : k < 136) (y0 : 0 < y) (hy : y ≠ ((t0 + j0 : Nat) : Int)) (hy77 : hk h y = 99 → y.toNat - t0 ≤ 77 ∧ t0 ≤ y.toNat) (a : cR (h, t) y) : cR (h, upd2 t k i v) y := by
  unfold cR at a ⊢
  by_cases q1 : hk h y = 99
  · rw [if_pos q1] at a ⊢
    by_cases q2 : y = (t0 : Int)
    · rw [if_pos q2] at a ⊢
      intro k' hk' q3
      show rg (tyX11 k') (upd2 t k i v k' 0)
      rw [upd2_ni]
      · exact a k' hk' q3
      · rintro ⟨z1, z2⟩
        have : k' = k := by omega
        subst this
        apply hy
        rw [q2, ← hj0, q3]
        rfl
    · rw [if_neg q2] at a ⊢
      have : upd2 t k i v (tq (y.toNat - t0)).1 = t (tq (y.toNat - t0)).1 := by
        apply upd2_ne
        intro z
        obtain ⟨w1, w2⟩ := hy77 q1
        obtain ⟨j, hj⟩ : ∃ j, y.toNat - t0 = j + 1 := ⟨y.toNat - t0 - 1, by omega⟩
        have := tq_inj j (by omega)
        rw [hj] at z
        have z2 : (tq (j + 1)).1 = k := by omega
        rw [z2, hj0] at this
        omega
      show ∀ i' : Int, rg _ (upd2 t k i v (tq (y.toNat - t0)).1 i')
      rw [this]
      exact a
  · rw [if_neg q1] at a ⊢
    exact a
theorem HR.tsetO (hH : HR g (h, t) H) (hT : HT h) {k : Nat} {v : Int} (hk1 : k < 136) (hj : tj k = 0) (hap : ∀ a b, a < 136 → b < 136 → a ≠ b → (gD g).2 11 a ≠ (gD g).2 11 b) (hr : rg (tyX11 k) v) {cell : Cell} (hc : H[gB g + t0]? = some cell)
    (e : H1[gB g + t0]? = some (cell.setSlot ((gD g).2 11 k) (enc g (tyX11 k) v))) (hs : H1.size = H.size) (ho : ∀ q, q ≠ gB g + t0 → H1[q]? = H[q]?) : HR g (h, upd2 t k 0 v) H1 := by
  obtain ⟨⟨cell', c1, c2, c3, c4⟩, hrg⟩ := hH.to hT
  cases hc.symm.trans c1
  have hy77 : ∀ y : Int, 0 < y → y ≤ hn h → hk h y = 99 → y.toNat - t0 ≤ 77 ∧ t0 ≤ y.toNat := fun y y0 y1 q => by have := hT.2.2 y y0 y1 q; omega
  have e99 : hk h (t0 : Int) = 99 := hT.2.1 0 (by omega)
  refine hH.put (x := (t0 : Int)) (w' := (h, upd2 t k 0 v)) hH.2.2.1.2 (by decide) rfl rfl hs ho (fun y y0 y1 hy H2 e2 a => tcell_ne hj hk1 hy hT (fun _ => rfl) y0 (hy77 y y0 y1) H2 e2 a) (fun y y0 y1 hy a => tR_ne hj hk1 y0 hy (hy77 y y0 y1) a) ⟨?_, ?_⟩
  · unfold cAt
    rw [if_pos e99, if_pos rfl]
    refine ⟨_, e, c2, c3, fun j hj' => ?_⟩
    refine (t_set c4 hap hk1 (enc g (tyX11 k) v) j hj').trans ?_
    show some (if j = k then _ else _) = some (tV g (upd2 t k 0 v) j)
    unfold tV
    by_cases q : j = k
    · subst q
      rw [if_pos rfl, if_pos hj, upd2_self]
    · rw [if_neg q]
      by_cases q3 : tj j = 0
      · rw [if_pos q3, if_pos q3, upd2_ni (fun z => q (by omega))]
      · rw [if_neg q3, if_neg q3]
  · unfold cR
    rw [if_pos e99, if_pos rfl]
    intro j hj' q3
    show rg (tyX11 j) (upd2 t k 0 v j 0)
    by_cases q : j = k
    · subst q
      rw [upd2_self]; exact hr
    · rw [upd2_ni (fun z => q (by omega))]; exact hrg j hj' q3
theorem HR.tsetA (hH : HR g (h, t) H) (hT : HT h) {k j : Nat} (hk1 : k < 136) (hj : tj k = j + 1) {i v : Int} (hi : 0 ≤ i) (hr : rg (aty (tq (j + 1)).2.1) v)
    (e : H1[gB g + (t0 + (j + 1))]? = some ((arrV (gA g (tq (j + 1)).2.1) (tq (j + 1)).2.2 (fun i => enc g (aty (tq (j + 1)).2.1) (t k i))).setSlot i.toNat (enc g (aty (tq (j + 1)).2.1) v))) (hs : H1.size = H.size) (ho : ∀ q, q ≠ gB g + (t0 + (j + 1)) → H1[q]? = H[q]?) : HR g (h, upd2 t k i v) H1 := by
  obtain ⟨c1, hrg⟩ := hH.ta hT hj hk1
  have hle := tj_le k hk1
  have hf : (tq (j + 1)).1 = k := by rw [← hj]; exact hle.2 (by omega)
  have hy77 : ∀ y : Int, 0 < y → y ≤ hn h → hk h y = 99 → y.toNat - t0 ≤ 77 ∧ t0 ≤ y.toNat := fun y y0 y1 q => by have := hT.2.2 y y0 y1 q; omega
  have e99 : hk h ((t0 + (j + 1) : Nat) : Int) = 99 := hT.2.1 (j + 1) (by omega)
  have e2 : ((t0 + (j + 1) : Nat) : Int).toNat = t0 + (j + 1) := by omega
  refine hH.put (x := ((t0 + (j + 1) : Nat) : Int)) (w' := (h, upd2 t k i v)) hH.2.2.1.2 (by unfold t0; omega) rfl rfl hs (fun q hq => ho q (by rw [← e2]; exact hq)) (fun y y0 y1 hy H2 e2 a => tcell_ne hj hk1 hy hT (fun q => by omega) y0 (hy77 y y0 y1) H2 e2 a) (fun y y0 y1 hy a => tR_ne hj hk1 y0 hy (hy77 y y0 y1) a) ⟨?_, ?_⟩
  · unfold cAt
    rw [if_pos e99, if_neg (by unfold t0; omega), e2, show t0 + (j + 1) - t0 = j + 1 by omega, e, arrV_store]
    congr 2
    funext j'
    show (if j' = i.toNat then _ else _) = enc g _ (upd2 t k i v (tq (j + 1)).1 j')
    rw [hf]
    by_cases q : j' = i.toNat
    · rw [if_pos q, show ((j' : Nat) : Int) = i by omega, upd2_self]
    · rw [if_neg q, upd2_ni (fun z => q (by omega))]
  · unfold cR
    rw [if_pos e99, if_neg (by unfold t0; omega), e2, show t0 + (j + 1) - t0 = j + 1 by omega]
    intro j'
    show rg _ (upd2 t k i v (tq (j + 1)).1 j')
    rw [hf]
    by_cases q : j' = i
    · subst q
      rw [upd2_self]; exact hr
    · rw [upd2_ni (fun z => q z.2)]; exact hrg j'
end
section
variable {A : Type} {Γ : Gm} {own : String} {cc : ByteArray} {nL : Nat} {ret : Option FieldType} {d : Nat} {pc : Nat} {lv : List (Nat × Value)} {st : List Value} {h : CH} {i v : Int} {K : A → TS → Prop} {k : Nat} {nm ds : String} {ty : FieldType} {idx : Nat}
/-- a field of the twin -/
def tfl (k : Nat) (nm ds : String) (ty : FieldType) (fin : Bool) : Bool := decide (k < 136) && decide ((TX11 k).1 = "LazyForgeModel") && decide ((TX11 k).2.1 = nm) && decide ((TX11 k).2.2.1 = ds) && ((TX11 k).2.2.2 == fin) && decide (tyX11 k = ty)
theorem tfl_at {fin : Bool} (h : tfl k nm ds ty fin = true) : k < 136 ∧ TX11 k = ("LazyForgeModel", nm, ds, fin) ∧ tyX11 k = ty := by
  unfold tfl at h
  simp only [Bool.and_eq_true, decide_eq_true_eq, beq_iff_eq] at h
  obtain ⟨⟨⟨⟨⟨a1, a2⟩, a3⟩, a4⟩, a5⟩, a6⟩ := h
  exact ⟨a1, by rw [← a2, ← a3, ← a4, ← a5], a6⟩
theorem e_tget (o : Ok Γ own cc nL ret d) (hT : HT h) {fin : Bool} (hf : tfl k nm ds ty fin = true) (hw : Cond.fieldLink own idx "LazyForgeModel" nm ds ∈ lw_tbl) (hd : decode cc pc = .ok (.getfield idx, 3)) {t : TS}
    (kk : (tj k = 0 → rg ty (t k 0)) → E Γ (pc + 3) lv (tV (mg Γ) t k :: st) (h, t)) : E Γ pc lv (vA (mg Γ) 21 :: st) (h, t) := by
  intro H locs ls cells slots hH hlo hv1 hc hs
  obtain ⟨ak, aT, aty⟩ := tfl_at hf
  obtain ⟨⟨cell, c1, c2, c3, c4⟩, hrg⟩ := hH.to hT
  have ar : wcl[11]? = some (RX11, TX11, 136) := rfl
  obtain ⟨hSl, hfc, kC, hkC, hkind⟩ := o.ht.2.1.1 _ _ ar
  obtain ⟨cf, kf, fi, f, hi, hsl⟩ := hSl k ak
  obtain ⟨-, b1, -⟩ := wcf_ok _ _ ar
  have hlay := u_lays o.hts b1 ak
  simp only [aT] at hi hlay
  have hst := (u_facts hfc hkC hlay hi).1
  have k1 := kk (fun q => by rw [← aty]; exact hrg k ak q) H locs ls cells slots hH hlo hv1 hc hs
  exact W.getf o.hx o.hb o.ho (o.w hw rfl) hi hst c1 (by rw [c3]; exact fun q => by cases q) (by rw [hsl]; exact c4 k ak) rfl rfl hd k1
/-- a number of the twin's -/
theorem s_tgf (o : Ok Γ own cc nL ret d) (hT : HT h) {fin : Bool} (hf : tfl k nm ds ty fin = true) (hj : (tj k == 0) = true) (hw : Cond.fieldLink own idx "LazyForgeModel" nm ds ∈ lw_tbl) (hd : decode cc pc = .ok (.getfield idx, 3)) {m : Int → Mo TS A}
    (kk : ∀ v, rg ty v → Sx Γ (fun t => (h, t)) K (pc + 3) lv (enc (mg Γ) ty v :: st) (m v)) : Sx Γ (fun t => (h, t)) K pc lv (vA (mg Γ) 21 :: st) (bnd (gs k) m) := by
  intro t a t' e hK
  have hj := beq_iff_eq.mp hj
  refine e_tget o hT hf hw hd (fun hr => ?_)
  have := kk _ (hr hj) t a t' e hK
  unfold tV
  rw [if_pos hj, (tfl_at hf).2.2]
  exact this
/-- an array of the twin's -/
theorem s_tga (o : Ok Γ own cc nL ret d) (hT : HT h) {fin : Bool} (hf : tfl k nm ds ty fin = true) {x : Int} (hj : (!(tj k == 0) && decide (((t0 + tj k : Nat) : Int) = x)) = true) (hw : Cond.fieldLink own idx "LazyForgeModel" nm ds ∈ lw_tbl) (hd : decode cc pc = .ok (.getfield idx, 3)) {m : Mo TS A}
    (kk : Sx Γ (fun t => (h, t)) K (pc + 3) lv (vA (mg Γ) x :: st) m) : Sx Γ (fun t => (h, t)) K pc lv (vA (mg Γ) 21 :: st) m := by
  intro t a t' e hK
  simp only [Bool.and_eq_true, decide_eq_true_eq, Bool.not_eq_true', beq_eq_false_iff_ne, ne_eq] at hj
  refine e_tget o hT hf hw hd (fun hr => ?_)
  unfold tV
  rw [if_neg hj.1, hj.2]
  exact kk t a t' e hK
theorem s_tpf (o : Ok Γ own cc nL ret d) (hT : HT h) (hf : tfl k nm ds ty false = true) (hj : (tj k == 0) = true) (hw : Cond.fieldLink own idx "LazyForgeModel" nm ds ∈ lw_tbl) (hd : decode cc pc = .ok (.putfield idx, 3)) (hr : rg ty v) (hty : ty ≠ .float ∧ ty ≠ .double ∧ ty ≠ .short) {m : Mo TS A}
    (kk : Sx Γ (fun t => (h, t)) K (pc + 3) lv st m) : Sx Γ (fun t => (h, t)) K pc lv (enc (mg Γ) ty v :: vA (mg Γ) 21 :: st) (bnd (ss k v) fun _ => m) := by
  intro t a t' e hK H locs ls cells slots hH hlo hv1 hc hs
  have hj := beq_iff_eq.mp hj
  obtain ⟨ak, aT, aty⟩ := tfl_at hf
  obtain ⟨⟨cell, c1, c2, c3, c4⟩, hrg⟩ := hH.to hT
  have ar : wcl[11]? = some (RX11, TX11, 136) := rfl
  obtain ⟨hSl, hfc, kC, hkC, hkind⟩ := o.ht.2.1.1 _ _ ar
  obtain ⟨cf, kf, fi, f, hi, hsl⟩ := hSl k ak
  obtain ⟨-, b1, b2⟩ := wcf_ok _ _ ar
  have hlay := u_lays o.hts b1 ak
  have hlay2 := o.hts _ (b1 _ (u_in_lay ak))
  have hds := b2 k ak
  have hds : parseFieldDescriptor (TX11 k).2.2.1 = some (tyX11 k) := hds
  unfold u_lay at hlay2
  simp only [aT] at hi hlay hlay2 hds
  rw [if_neg (show ¬ (false = true) from Bool.false_ne_true)] at hlay2
  rw [aty] at hds
  have hst := (u_facts hfc hkC hlay hi).1
  obtain ⟨n1, n2⟩ := enc_ok (mg Γ) ty hr hty.1 hty.2.1 hty.2.2
  have h6 := u_store hfc hkC hkind hlay2 hi hds n1 n2
  refine W.putK o.hx o.hb (f := f) (a := gB (mg Γ) + t0) ⟨o.ho, o.w hw rfl, ⟨_, _, _, hi⟩, hst⟩ (by rw [c2]; exact h6) c1 c3 (by rw [hsl]; exact k2_hasslot (c4 k ak)) rfl rfl hd (fun H' e1 e2 e3 => ?_)
  rw [hsl] at e1
  refine kk _ a t' e hK H' _ ls cells slots (hH.tsetO hT ak hj (fun a b ha hb hne => o.ht.2.2.2 11 a b (by decide) ha hb hne) (by rw [aty]; exact hr) c1 (by rw [aty]; exact e1) e2 e3) ?_ hv1 hc hs
  intro q hq
  rcases List.mem_append.mp hq with hq | hq
  · exact hlo q hq
  · rw [List.mem_singleton.mp hq]; show gB (mg Γ) < gB (mg Γ) + t0; unfold t0; omega
/-- the twin's array: field k, its kind, its length, at the cell x -/
def tar (k kd : Nat) (n x : Int) : Bool := decide (k < 136) && !(tj k == 0) && decide (((t0 + tj k : Nat) : Int) = x) && decide ((tq (tj k)).2.1 = kd) && decide (((tq (tj k)).2.2 : Int) = n)
theorem tar_at {kd : Nat} {n x : Int} (h : tar k kd n x = true) : k < 136 ∧ ∃ j : Nat, tj k = j + 1 ∧ x = ((t0 + (j + 1) : Nat) : Int) ∧ (tq (j + 1)).2.1 = kd ∧ ((tq (j + 1)).2.2 : Int) = n := by
  unfold tar at h
  simp only [Bool.and_eq_true, decide_eq_true_eq, Bool.not_eq_true', beq_eq_false_iff_ne, ne_eq] at h
  obtain ⟨⟨⟨⟨a1, a2⟩, a3⟩, a4⟩, a5⟩ := h
  refine ⟨a1, tj k - 1, by omega, ?_, ?_, ?_⟩
  · rw [show tj k - 1 + 1 = tj k by omega]; exact a3.symm
  · rw [show tj k - 1 + 1 = tj k by omega]; exact a4
  · rw [show tj k - 1 + 1 = tj k by omega]; exact a5
theorem s_tiaload (o : Ok Γ own cc nL ret d) (hT : HT h) {n x : Int} (hf : tar k 0 n x = true) (hi : R32 i) (hd : decode cc pc = .ok (.iaload, 1)) {m : Int → Mo TS A}
    (kk : ∀ v, rg (aty 0) v → Sx Γ (fun t => (h, t)) K (pc + 1) lv (enc (mg Γ) (aty 0) v :: st) (m v)) : Sx Γ (fun t => (h, t)) K pc lv (vI i :: vA (mg Γ) x :: st) (bnd (rd k n i) m) := by
  intro t a t' e hK
  obtain ⟨r, e1, e2⟩ := bnd_some e
  unfold rd at e1
  split at e1
  · rename_i q
    cases e1
    obtain ⟨ak, j, aj, rfl, akd, rfl⟩ := tar_at hf
    intro H locs ls cells slots hH hlo hv1 hc hs
    obtain ⟨c1, c2⟩ := hH.ta hT aj ak
    rw [akd] at c1 c2
    have k1 := kk _ (c2 i) t a t' e2 hK H locs ls cells slots hH hlo hv1 hc hs
    obtain ⟨p1, p2⟩ := ix_in q.1 q.2 hi
    have hlt : i.toNat < (tq (j + 1)).2.2 := by omega
    have hrd := arrV_read (gA (mg Γ) 0) (fun i => enc (mg Γ) (aty 0) (t k i)) hlt
    rw [show ((i.toNat : Nat) : Int) = i by omega] at hrd
    rw [vA_pos (by unfold t0; omega), show ((t0 + (j + 1) : Nat) : Int).toNat = t0 + (j + 1) by omega]
    exact W.iald o.hx o.hb c1 (o.arr (kd := 0) (by omega) _ _) (fun q => by cases q) (by rw [arrV_size]; exact p1) (by rw [p2]; exact hrd) rfl rfl hd k1
  · cases e1
theorem s_tlaload (o : Ok Γ own cc nL ret d) (hT : HT h) {n x : Int} (hf : tar k 1 n x = true) (hi : R32 i) (hd : decode cc pc = .ok (.laload, 1)) {m : Int → Mo TS A}
    (kk : ∀ v, rg (aty 1) v → Sx Γ (fun t => (h, t)) K (pc + 1) lv (enc (mg Γ) (aty 1) v :: st) (m v)) : Sx Γ (fun t => (h, t)) K pc lv (vI i :: vA (mg Γ) x :: st) (bnd (rd k n i) m) := by
  intro t a t' e hK
  obtain ⟨r, e1, e2⟩ := bnd_some e
  unfold rd at e1
  split at e1
  · rename_i q
    cases e1
    obtain ⟨ak, j, aj, rfl, akd, rfl⟩ := tar_at hf
    intro H locs ls cells slots hH hlo hv1 hc hs
    obtain ⟨c1, c2⟩ := hH.ta hT aj ak
    rw [akd] at c1 c2
    have k1 := kk _ (c2 i) t a t' e2 hK H locs ls cells slots hH hlo hv1 hc hs
    obtain ⟨p1, p2⟩ := ix_in q.1 q.2 hi
    have hlt : i.toNat < (tq (j + 1)).2.2 := by omega
    have hrd := arrV_read (gA (mg Γ) 1) (fun i => enc (mg Γ) (aty 1) (t k i)) hlt
    rw [show ((i.toNat : Nat) : Int) = i by omega] at hrd
    rw [vA_pos (by unfold t0; omega), show ((t0 + (j + 1) : Nat) : Int).toNat = t0 + (j + 1) by omega]
    exact W.lald o.hx o.hb c1 (o.arr (kd := 1) (by omega) _ _) (fun q => by cases q) (by rw [arrV_size]; exact p1) (by rw [p2]; exact hrd) rfl rfl hd k1
  · cases e1
theorem s_tzaload (o : Ok Γ own cc nL ret d) (hT : HT h) {n x : Int} (hf : tar k 3 n x = true) (hi : R32 i) (hd : decode cc pc = .ok (.baload, 1)) {m : Int → Mo TS A}
    (kk : ∀ v, rg (aty 3) v → Sx Γ (fun t => (h, t)) K (pc + 1) lv (enc (mg Γ) (aty 3) v :: st) (m v)) : Sx Γ (fun t => (h, t)) K pc lv (vI i :: vA (mg Γ) x :: st) (bnd (rd k n i) m) := by
  intro t a t' e hK
  obtain ⟨r, e1, e2⟩ := bnd_some e
  unfold rd at e1
  split at e1
  · rename_i q
    cases e1
    obtain ⟨ak, j, aj, rfl, akd, rfl⟩ := tar_at hf
    intro H locs ls cells slots hH hlo hv1 hc hs
    obtain ⟨c1, c2⟩ := hH.ta hT aj ak
    rw [akd] at c1 c2
    have k1 := kk _ (c2 i) t a t' e2 hK H locs ls cells slots hH hlo hv1 hc hs
    obtain ⟨p1, p2⟩ := ix_in q.1 q.2 hi
    have hlt : i.toNat < (tq (j + 1)).2.2 := by omega
    have hrd := arrV_read (gA (mg Γ) 3) (fun i => enc (mg Γ) (aty 3) (t k i)) hlt
    rw [show ((i.toNat : Nat) : Int) = i by omega] at hrd
    rw [vA_pos (by unfold t0; omega), show ((t0 + (j + 1) : Nat) : Int).toNat = t0 + (j + 1) by omega]
    exact W.zald o.hx o.hb c1 (o.arr (kd := 3) (by omega) _ _) (fun q => by cases q) (by rw [arrV_size]; exact p1) (by rw [p2]; exact hrd) rfl rfl hd k1
  · cases e1
theorem s_tiastore (o : Ok Γ own cc nL ret d) (hT : HT h) {n x : Int} (hf : tar k 0 n x = true) (hi : R32 i) (hv0 : rg (aty 0) v) (hd : decode cc pc = .ok (.iastore, 1)) {m : Mo TS A}
    (kk : Sx Γ (fun t => (h, t)) K (pc + 1) lv st m) : Sx Γ (fun t => (h, t)) K pc lv (enc (mg Γ) (aty 0) v :: vI i :: vA (mg Γ) x :: st) (bnd (wr k n i v) fun _ => m) := by
  intro t a t' e hK
  obtain ⟨r, e1, e2⟩ := bnd_some e
  unfold wr at e1
  split at e1
  · rename_i q
    cases e1
    obtain ⟨ak, j, aj, rfl, akd, rfl⟩ := tar_at hf
    intro H locs ls cells slots hH hlo hv1 hc hs
    obtain ⟨c1, c2⟩ := hH.ta hT aj ak
    have c1' := c1
    rw [akd] at c1
    obtain ⟨p1, p2⟩ := ix_in q.1 q.2 hi
    rw [vA_pos (by unfold t0; omega), show ((t0 + (j + 1) : Nat) : Int).toNat = t0 + (j + 1) by omega]
    refine W.iast o.hx o.hb c1 (o.arr (kd := 0) (by omega) _ _) (fun q => by cases q) (by rw [arrV_size]; exact p1) rfl rfl hd (fun H1 f1 f2 f3 => ?_)
    rw [p2] at f1 ⊢
    refine kk _ a t' e2 hK H1 _ ls cells slots (hH.tsetA hT ak aj q.1 (by rw [akd]; exact hv0) (by rw [akd]; exact f1) f2 f3) ?_ hv1 hc hs
    intro q hq
    rcases List.mem_append.mp hq with hq | hq
    · exact hlo q hq
    · rw [List.mem_singleton.mp hq]; show gB (mg Γ) < gB (mg Γ) + (t0 + (j + 1)); omega
  · cases e1
theorem s_tlastore (o : Ok Γ own cc nL ret d) (hT : HT h) {n x : Int} (hf : tar k 1 n x = true) (hi : R32 i) (hv0 : rg (aty 1) v) (hd : decode cc pc = .ok (.lastore, 1)) {m : Mo TS A}
    (kk : Sx Γ (fun t => (h, t)) K (pc + 1) lv st m) : Sx Γ (fun t => (h, t)) K pc lv (enc (mg Γ) (aty 1) v :: vI i :: vA (mg Γ) x :: st) (bnd (wr k n i v) fun _ => m) := by
  intro t a t' e hK
  obtain ⟨r, e1, e2⟩ := bnd_some e
  unfold wr at e1
  split at e1
  · rename_i q
    cases e1
    obtain ⟨ak, j, aj, rfl, akd, rfl⟩ := tar_at hf
    intro H locs ls cells slots hH hlo hv1 hc hs
    obtain ⟨c1, c2⟩ := hH.ta hT aj ak
    have c1' := c1
    rw [akd] at c1
    obtain ⟨p1, p2⟩ := ix_in q.1 q.2 hi
    rw [vA_pos (by unfold t0; omega), show ((t0 + (j + 1) : Nat) : Int).toNat = t0 + (j + 1) by omega]
    refine W.last o.hx o.hb c1 (o.arr (kd := 1) (by omega) _ _) (fun q => by cases q) (by rw [arrV_size]; exact p1) rfl rfl hd (fun H1 f1 f2 f3 => ?_)
    rw [p2] at f1 ⊢
    refine kk _ a t' e2 hK H1 _ ls cells slots (hH.tsetA hT ak aj q.1 (by rw [akd]; exact hv0) (by rw [akd]; exact f1) f2 f3) ?_ hv1 hc hs
    intro q hq
    rcases List.mem_append.mp hq with hq | hq
    · exact hlo q hq
    · rw [List.mem_singleton.mp hq]; show gB (mg Γ) < gB (mg Γ) + (t0 + (j + 1)); omega
  · cases e1
theorem s_tzastore (o : Ok Γ own cc nL ret d) (hT : HT h) {n x : Int} (hf : tar k 3 n x = true) (hi : R32 i) (hv0 : rg (aty 3) v) (hd : decode cc pc = .ok (.bastore, 1)) {m : Mo TS A}
    (kk : Sx Γ (fun t => (h, t)) K (pc + 1) lv st m) : Sx Γ (fun t => (h, t)) K pc lv (enc (mg Γ) (aty 3) v :: vI i :: vA (mg Γ) x :: st) (bnd (wr k n i v) fun _ => m) := by
  intro t a t' e hK
  obtain ⟨r, e1, e2⟩ := bnd_some e
  unfold wr at e1
  split at e1
  · rename_i q
    cases e1
    obtain ⟨ak, j, aj, rfl, akd, rfl⟩ := tar_at hf
    intro H locs ls cells slots hH hlo hv1 hc hs
    obtain ⟨c1, c2⟩ := hH.ta hT aj ak
    have c1' := c1
    rw [akd] at c1
    obtain ⟨p1, p2⟩ := ix_in q.1 q.2 hi
    rw [vA_pos (by unfold t0; omega), show ((t0 + (j + 1) : Nat) : Int).toNat = t0 + (j + 1) by omega]
    refine W.zast o.hx o.hb c1 (o.arr (kd := 3) (by omega) _ _) (fun q => by cases q) (by rw [arrV_size]; exact p1) rfl rfl hd (fun H1 f1 f2 f3 => ?_)
    rw [p2] at f1 ⊢
    have en := (enc_ok (mg Γ) (aty 3) hv0 (fun z => by cases z) (fun z => by cases z) (fun z => by cases z)).1
    have f1 : H1[gB (mg Γ) + (t0 + (j + 1))]? = some ((arrV (gA (mg Γ) 3) (tq (j + 1)).2.2 (fun i => enc (mg Γ) (aty 3) (t k i))).setSlot i.toNat (enc (mg Γ) (aty 3) v)) := by rw [← en]; exact f1
    refine kk _ a t' e2 hK H1 _ ls cells slots (hH.tsetA hT ak aj q.1 (by rw [akd]; exact hv0) (by rw [akd]; exact f1) f2 f3) ?_ hv1 hc hs
    intro q hq
    rcases List.mem_append.mp hq with hq | hq
    · exact hlo q hq
    · rw [List.mem_singleton.mp hq]; show gB (mg Γ) < gB (mg Γ) + (t0 + (j + 1)); omega
  · cases e1
end
