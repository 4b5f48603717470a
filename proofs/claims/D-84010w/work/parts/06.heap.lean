/-! ROWS 3: the heap -/
set_option maxRecDepth 100000
/-- the field k of the classes S (kinds, 100 + their numbers) is this one -/
def fldOK (S : List Nat) (k : Nat) (O nm ds : String) (ty : FieldType) (fin : Bool) : Bool := S.all fun q => decide (100 ≤ q) && match wcl[q - 100]? with
  | some r => decide (k < r.2.2) && decide ((r.2.1 k).1 = O) && decide ((r.2.1 k).2.1 = nm) && decide ((r.2.1 k).2.2.1 = ds) && ((r.2.1 k).2.2.2 == fin) && decide (wty (q - 100) k = ty)
  | none => false
theorem fld_at {S : List Nat} {k : Nat} {O nm ds : String} {ty : FieldType} {fin : Bool} (h : fldOK S k O nm ds ty fin = true) {q : Nat} (hq : q ∈ S) : 100 ≤ q ∧ q - 100 < 32 ∧ ∃ r, wcl[q - 100]? = some r ∧ k < r.2.2 ∧ r.2.1 k = (O, nm, ds, fin) ∧ wty (q - 100) k = ty ∧ r.2.2 = wN (q - 100) := by
  have h1 := List.all_eq_true.mp h q hq
  simp only [Bool.and_eq_true, decide_eq_true_eq] at h1
  obtain ⟨h0, h1⟩ := h1
  cases hr : wcl[q - 100]? with
  | none => rw [hr] at h1; cases h1
  | some r =>
    rw [hr] at h1
    simp only [Bool.and_eq_true, decide_eq_true_eq, beq_iff_eq] at h1
    obtain ⟨⟨⟨⟨⟨a1, a2⟩, a3⟩, a4⟩, a5⟩, a6⟩ := h1
    refine ⟨h0, (List.getElem?_eq_some_iff.mp hr).1, r, rfl, a1, ?_, a6, (wcf_ok _ _ hr).1⟩
    rw [← a2, ← a3, ← a4, ← a5]
theorem enc_ok (g : gC) (ty : FieldType) {x : Int} (h : rg ty x) (hf : ty ≠ .float) (hd : ty ≠ .double) (hs : ty ≠ .short) : narrow ty (enc g ty x) = enc g ty x ∧ fits ty (enc g ty x) = true := by
  cases ty with
  | object n =>
    have : enc g (.object n) x = va_rf (rR g x) := rfl
    rw [this]
    cases rR g x <;> exact ⟨rfl, rfl⟩
  | array n =>
    have : enc g (.array n) x = va_rf (rR g x) := rfl
    rw [this]
    cases rR g x <;> exact ⟨rfl, rfl⟩
  | boolean =>
    rcases h with rfl | rfl
    · show narrow .boolean (vI 0) = vI 0 ∧ fits .boolean (vI 0) = true
      decide +kernel
    · show narrow .boolean (vI 1) = vI 1 ∧ fits .boolean (vI 1) = true
      decide +kernel
  | char =>
    have e : enc g .char x = Value.int (nI x.toNat) := by
      show Value.int (Int32.ofInt x) = Value.int (Int32.ofNat x.toNat)
      rw [show Int32.ofNat x.toNat = Int32.ofInt ((x.toNat : Nat) : Int) from rfl, Int.toNat_of_nonneg h.1]
    rw [e]
    exact pk_charN (by have := h.2; have := h.1; omega)
  | byte =>
    have e : enc g .byte x = Value.int (Int32.ofInt x) := rfl
    have e2 : (Int32.ofInt x).toInt8.toInt32 = Int32.ofInt x := by
      apply Int32.toInt_inj.mp
      have h1 := h.1
      have h2 := h.2
      rw [Int8.toInt_toInt32, Int32.toInt_toInt8, Int32.toInt_ofInt_of_le (by omega) (by omega)]
      rw [show (Int.bmod x (2 ^ 8)) = x by rw [Int.bmod_eq_of_le (by omega) (by omega)]]
    rw [e, ← e2]
    exact ⟨pk_nb _, pk_fb _⟩
  | int => exact ⟨rfl, rfl⟩
  | long => exact ⟨rfl, rfl⟩
  | float => exact absurd rfl hf
  | double => exact absurd rfl hd
  | short => exact absurd rfl hs

section
variable {g : gC} {w : Wd} {H H1 : Heap} {x : Int}
theorem HR.ob (hH : HR g w H) (h0 : 0 < x) (h1 : x ≤ hn w.1) (hq : 100 ≤ hk w.1 x) : t_OB (gB g + x.toNat) ((gD g).1 (hk w.1 x - 100)) (wN (hk w.1 x - 100)) ((gD g).2 (hk w.1 x - 100)) H (fun k => enc g (wty (hk w.1 x - 100) k) (hv w.1 x k)) ∧ ∀ k : Nat, k < wN (hk w.1 x - 100) → rg (wty (hk w.1 x - 100) k) (hv w.1 x k) := by
  obtain ⟨a, b⟩ := hH.2.2.2.2 x h0 h1
  unfold cAt at a
  unfold cR at b
  rw [if_neg (by omega), if_neg (by omega)] at a b
  exact ⟨a, b⟩
theorem HR.ar (hH : HR g w H) (h0 : 0 < x) (h1 : x ≤ hn w.1) {kd : Nat} (hq : hk w.1 x = kd) (hlt : kd < 99) : H[gB g + x.toNat]? = some (arrV (gA g kd) (hl w.1 x) (fun i => enc g (aty kd) (hv w.1 x i))) ∧ hl w.1 x ≤ 2147483647 ∧ ∀ i : Int, rg (aty kd) (hv w.1 x i) := by
  obtain ⟨a, b⟩ := hH.2.2.2.2 x h0 h1
  unfold cAt at a
  unfold cR at b
  rw [hq, if_neg (by omega), if_pos hlt] at a b
  exact ⟨a, b⟩
/-- one cell's contents change -/
theorem HR.put {w' : Wd} (hH : HR g w H) (hE : ET w'.1) (h0 : 0 < x) (hn1 : hn w'.1 = hn w.1) (hz1 : hz w'.1 = hz w.1) (hs : H1.size = H.size) (ho : ∀ q, q ≠ gB g + x.toNat → H1[q]? = H[q]?)
    (hc : ∀ y : Int, 0 < y → y ≤ hn w.1 → y ≠ x → ∀ H2 : Heap, H2[gB g + y.toNat]? = H[gB g + y.toNat]? → cAt g w y H → cAt g w' y H2) (hr : ∀ y : Int, 0 < y → y ≤ hn w.1 → y ≠ x → cR w y → cR w' y)
    (hx : cAt g w' x H1 ∧ cR w' x) : HR g w' H1 := by
  obtain ⟨e1, e2, e3, e4, e5⟩ := hH
  refine ⟨by rw [hs, e1, hn1], fun q hq => ?_, ⟨by rw [hn1]; exact e3.1, hE⟩, by rw [hz1]; exact e4, fun y y0 y1 => ?_⟩
  · rw [ho q (by omega)]
    exact e2 q hq
  · rw [hn1] at y1
    by_cases e : y = x
    · rw [e]; exact hx
    · obtain ⟨a, b⟩ := e5 y y0 y1
      exact ⟨hc y y0 y1 e H1 (ho _ (by omega)) a, hr y y0 y1 e b⟩
end
def upd2 (f : Int → Int → Int) (x i v : Int) : Int → Int → Int := fun a j => if a = x ∧ j = i then v else f a j
def hset (h : CH) (x i v : Int) : CH := (h.1, h.2.1, h.2.2.1, h.2.2.2.1, upd2 h.2.2.2.2 x i v)
theorem upd2_ne {f : Int → Int → Int} {x i v y : Int} (h : y ≠ x) : upd2 f x i v y = f y := by
  funext j
  unfold upd2
  rw [if_neg (fun q => h q.1)]
theorem upd2_self {f : Int → Int → Int} {x i v : Int} : upd2 f x i v x i = v := by
  unfold upd2
  rw [if_pos ⟨rfl, rfl⟩]
theorem upd2_ni {f : Int → Int → Int} {x i v y j : Int} (h : ¬ (y = x ∧ j = i)) : upd2 f x i v y j = f y j := by
  unfold upd2
  rw [if_neg h]
section
variable {g : gC} {h : CH} {ts : TS} {H H1 : Heap} {x : Int}
theorem cAt_ne {y i v : Int} (hy : y ≠ x) (H2 : Heap) (e : H2[gB g + y.toNat]? = H[gB g + y.toNat]?) (a : cAt g (h, ts) y H) : cAt g (hset h x i v, ts) y H2 := by
  have e1 : hv (hset h x i v) y = hv h y := upd2_ne hy
  unfold cAt at a ⊢
  show (if hk h y = 99 then _ else if hk h y < 99 then _ else _)
  by_cases q1 : hk h y = 99
  · rw [if_pos q1] at a ⊢
    by_cases q2 : y = (t0 : Int)
    · rw [if_pos q2] at a ⊢
      exact a.kept e
    · rw [if_neg q2] at a ⊢
      rw [e]; exact a
  · rw [if_neg q1] at a ⊢
    by_cases q2 : hk h y < 99
    · rw [if_pos q2] at a ⊢
      rw [e]
      show _ = some (arrV _ _ (fun i' => enc g _ (hv (hset h x i v) y i')))
      rw [e1]
      exact a
    · rw [if_neg q2] at a ⊢
      refine t_OB.to (a.kept e) (fun k _ => ?_)
      show _ = enc g _ (hv (hset h x i v) y k)
      rw [e1]
      rfl
theorem cR_ne {y i v : Int} (hy : y ≠ x) (a : cR (h, ts) y) : cR (hset h x i v, ts) y := by
  have e1 : hv (hset h x i v) y = hv h y := upd2_ne hy
  unfold cR at a ⊢
  show (if hk h y = 99 then _ else if hk h y < 99 then hl h y ≤ 2147483647 ∧ ∀ i' : Int, rg _ (hv (hset h x i v) y i') else ∀ k : Nat, k < _ → rg _ (hv (hset h x i v) y k))
  rw [e1]
  exact a
theorem ET_set (hE : ET h) {i v : Int} (hv0 : 5 ≤ hk h x → hk h x < 11 → okEl h (hk h x) v) : ET (hset h x i v) := by
  intro y y0 y1 y2 y3 j
  show okEl h (hk h y) (upd2 (hv h) x i v y j)
  by_cases e : y = x ∧ j = i
  · obtain ⟨rfl, rfl⟩ := e
    rw [upd2_self]
    exact hv0 y2 y3
  · rw [upd2_ni e]
    exact hE y y0 y1 y2 y3 j
theorem HR.setO (hH : HR g (h, ts) H) (h0 : 0 < x) (h1 : x ≤ hn h) (hq : 100 ≤ hk h x) {k : Nat} {v : Int} (hk1 : k < wN (hk h x - 100)) (hap : ∀ a b, a < wN (hk h x - 100) → b < wN (hk h x - 100) → a ≠ b → (gD g).2 (hk h x - 100) a ≠ (gD g).2 (hk h x - 100) b) (hr : rg (wty (hk h x - 100) k) v) {cell : Cell} (hc : H[gB g + x.toNat]? = some cell)
    (e : H1[gB g + x.toNat]? = some (cell.setSlot ((gD g).2 (hk h x - 100) k) (enc g (wty (hk h x - 100) k) v))) (hs : H1.size = H.size) (ho : ∀ q, q ≠ gB g + x.toNat → H1[q]? = H[q]?) : HR g (hset h x k v, ts) H1 := by
  obtain ⟨⟨cell', c1, c2, c3, c4⟩, hrg⟩ := hH.ob h0 h1 hq
  cases hc.symm.trans c1
  refine hH.put (ET_set hH.2.2.1.2 (fun q1 q2 => by have : hk h x < 11 := q2; omega)) h0 rfl rfl hs ho (fun y _ _ hy H2 e2 a => cAt_ne hy H2 e2 a) (fun y _ _ hy a => cR_ne hy a) ⟨?_, ?_⟩
  · unfold cAt
    show (if hk h x = 99 then _ else if hk h x < 99 then _ else _)
    rw [if_neg (by omega), if_neg (by omega)]
    refine ⟨_, e, c2, c3, fun j hj => ?_⟩
    refine (t_set c4 hap hk1 (enc g (wty (hk h x - 100) k) v) j hj).trans ?_
    show some (if j = k then _ else _) = some (enc g (wty (hk h x - 100) j) (upd2 (hv h) x k v x j))
    by_cases q : j = k
    · subst q
      rw [if_pos rfl, upd2_self]
    · rw [if_neg q, upd2_ni (fun z => q (by omega))]
  · unfold cR
    show (if hk h x = 99 then _ else if hk h x < 99 then _ else _)
    rw [if_neg (by omega), if_neg (by omega)]
    intro j hj
    show rg (wty (hk h x - 100) j) (upd2 (hv h) x k v x j)
    by_cases q : j = k
    · subst q
      rw [upd2_self]; exact hr
    · rw [upd2_ni (fun z => q (by omega))]; exact hrg j hj
theorem HR.setA (hH : HR g (h, ts) H) (h0 : 0 < x) (h1 : x ≤ hn h) {kd : Nat} (hq : hk h x = kd) (hlt : kd < 99) {i v : Int} (hi : 0 ≤ i) (hr : rg (aty kd) v) (hel : 5 ≤ kd → okEl h kd v)
    (e : H1[gB g + x.toNat]? = some ((arrV (gA g kd) (hl h x) (fun j => enc g (aty kd) (hv h x j))).setSlot i.toNat (enc g (aty kd) v))) (hs : H1.size = H.size) (ho : ∀ q, q ≠ gB g + x.toNat → H1[q]? = H[q]?) : HR g (hset h x i v, ts) H1 := by
  obtain ⟨c1, hll, hrg⟩ := hH.ar h0 h1 hq hlt
  refine hH.put (ET_set hH.2.2.1.2 (fun q1 q2 => by have q1 : 5 ≤ hk h x := q1; show okEl h (hk h x) v; rw [hq] at q1 ⊢; exact hel q1)) h0 rfl rfl hs ho (fun y _ _ hy H2 e2 a => cAt_ne hy H2 e2 a) (fun y _ _ hy a => cR_ne hy a) ⟨?_, ?_⟩
  · unfold cAt
    show (if hk h x = 99 then _ else if hk h x < 99 then H1[gB g + x.toNat]? = some (arrV (gA g (hk h x)) (hl h x) (fun j => enc g (aty (hk h x)) (upd2 (hv h) x i v x j))) else _)
    rw [hq, if_neg (by omega), if_pos hlt, e, arrV_store]
    congr 2
    funext j
    show (if j = i.toNat then _ else _) = _
    by_cases q : j = i.toNat
    · rw [if_pos q, show ((j : Nat) : Int) = i by omega, upd2_self]
    · rw [if_neg q, upd2_ni (fun z => q (by omega))]
  · unfold cR
    show (if hk h x = 99 then _ else if hk h x < 99 then hl h x ≤ 2147483647 ∧ ∀ j : Int, rg (aty (hk h x)) (upd2 (hv h) x i v x j) else _)
    rw [hq, if_neg (by omega), if_pos hlt]
    refine ⟨hll, fun j => ?_⟩
    by_cases q : j = i
    · subst q
      rw [upd2_self]; exact hr
    · rw [upd2_ni (fun z => q z.2)]; exact hrg j
end

theorem good_kw {w : Cond} (h : goodWord w = true) : kw w = true := by
  cases w with
  | arrayOver t => cases t <;> first | rfl | exact h
  | _ => first | rfl | exact h
theorem Ok.hts {Γ : Gm} {own : String} {cc : ByteArray} {nL : Nat} {ret : Option FieldType} {d : Nat} (o : Ok Γ own cc nL ret d) : ∀ w ∈ lw_all, w.before (xA (mx Γ)) (xS (mx Γ)) = true := fun _ hw => o.w (lw_all_tbl hw) (good_kw (List.mem_filter.mp hw).2)
/-! rows of the made cells: fields -/
/-- the link of a field: from the class itself, or from a nest mate -/
def lnk (own : String) (idx : Nat) (O nm ds : String) : Prop := Cond.fieldLink own idx O nm ds ∈ lw_tbl ∨ (∃ host, Cond.fieldLinkNest own idx O nm ds host ∈ lw_tbl) ∨ ∃ ref, Cond.fieldLink own idx ref nm ds ∈ lw_tbl ∧ Cond.sameField ref O nm ds ∈ lw_tbl
def gf (S : List Nat) (k : Nat) (x : Int) : Mo CH Int := fun h => if 0 < x ∧ x ≤ hn h ∧ hk h x ∈ S then some (hv h x k, h) else none
def pf (S : List Nat) (k : Nat) (x v : Int) : Mo CH Unit := fun h => if 0 < x ∧ x ≤ hn h ∧ hk h x ∈ S then some ((), hset h x k v) else none
theorem rR_pos {g : gC} {x : Int} (h : 0 < x) : rR g x = some (gB g + x.toNat) := by
  unfold rR
  rw [if_pos h]
theorem vA_pos {g : gC} {x : Int} (h : 0 < x) : vA g x = .ref (gB g + x.toNat) := by
  unfold vA
  rw [rR_pos h]
  rfl
section
variable {A : Type} {Γ : Gm} {own : String} {cc : ByteArray} {nL : Nat} {ret : Option FieldType} {d : Nat} {pc : Nat} {lv : List (Nat × Value)} {st : List Value} {h : CH} {ts : TS} {x : Int} {S : List Nat} {k : Nat} {O nm ds : String} {ty : FieldType} {fin : Bool} {idx : Nat}
theorem e_getf (o : Ok Γ own cc nL ret d) (hf : fldOK S k O nm ds ty fin = true) (hw : lnk own idx O nm ds) (hd : decode cc pc = .ok (.getfield idx, 3)) (h0 : 0 < x) (h1 : x ≤ hn h) (hS : hk h x ∈ S)
    (kk : rg ty (hv h x k) → E Γ (pc + 3) lv (enc (mg Γ) ty (hv h x k) :: st) (h, ts)) : E Γ pc lv (vA (mg Γ) x :: st) (h, ts) := by
  intro H locs ls cells slots hH hl hv1 hc hs
  obtain ⟨a0, a1, r, ar, ak, aT, aty, aN⟩ := fld_at hf hS
  obtain ⟨⟨cell, c1, c2, c3, c4⟩, hrg⟩ := hH.ob h0 h1 a0
  obtain ⟨hSl, hfc, kC, hkC, hkind⟩ := o.ht.2.1.1 _ _ ar
  obtain ⟨cf, kf, fi, f, hi, hsl⟩ := hSl k ak
  rw [aT] at hi
  obtain ⟨-, b1, -⟩ := wcf_ok _ _ ar
  have hlay := u_lays o.hts b1 ak
  rw [aT] at hlay
  have hst := (u_facts hfc hkC hlay hi).1
  have e4 := c4 k (by rw [← aN]; exact ak)
  have k1 := kk (by rw [← aty]; exact hrg k (by rw [← aN]; exact ak)) H locs ls cells slots hH hl hv1 hc hs
  rw [← aty] at k1
  rw [vA_pos h0]
  rcases hw with hw | ⟨host, hw⟩ | ⟨ref, hw, hsf⟩
  · exact W.getf o.hx o.hb o.ho (o.w hw rfl) hi hst c1 (by rw [c3]; exact fun q => by cases q) (by rw [hsl]; exact e4) rfl rfl hd k1
  · exact va_Wgetf o.hx o.hb o.ho (o.w hw rfl) hi hst c1 (by rw [c3]; exact fun q => by cases q) (by rw [hsl]; exact e4) rfl rfl hd k1
  · exact W.getf o.hx o.hb o.ho (o.w hw rfl) (u_same (o.w hsf rfl) _ hi) hst c1 (by rw [c3]; exact fun q => by cases q) (by rw [hsl]; exact e4) rfl rfl hd k1
theorem e_putf (o : Ok Γ own cc nL ret d) (hf : fldOK S k O nm ds ty fin = true) (hw : lnk own idx O nm ds) (hd : decode cc pc = .ok (.putfield idx, 3)) (hfin : fin = false ∨ ((xMe (mx Γ)).name = "<init>" ∧ O = own ∧ Cond.fieldLink own idx O nm ds ∈ lw_tbl)) (h0 : 0 < x) (h1 : x ≤ hn h) (hS : hk h x ∈ S) {v : Int} (hr : rg ty v) (hty : ty ≠ .float ∧ ty ≠ .double ∧ ty ≠ .short)
    (kk : E Γ (pc + 3) lv st (hset h x k v, ts)) : E Γ pc lv (enc (mg Γ) ty v :: vA (mg Γ) x :: st) (h, ts) := by
  intro H locs ls cells slots hH hl hv1 hc hs
  obtain ⟨a0, a1, r, ar, ak, aT, aty, aN⟩ := fld_at hf hS
  obtain ⟨⟨cell, c1, c2, c3, c4⟩, hrg⟩ := hH.ob h0 h1 a0
  obtain ⟨hSl, hfc, kC, hkC, hkind⟩ := o.ht.2.1.1 _ _ ar
  obtain ⟨cf, kf, fi, f, hi, hsl⟩ := hSl k ak
  rw [aT] at hi
  obtain ⟨-, b1, b2⟩ := wcf_ok _ _ ar
  have hlay := u_lays o.hts b1 ak
  rw [aT] at hlay
  have hst := (u_facts hfc hkC hlay hi).1
  have e4 := c4 k (by rw [← aN]; exact ak)
  obtain ⟨n1, n2⟩ := enc_ok (mg Γ) ty hr hty.1 hty.2.1 hty.2.2
  have hds := b2 k ak
  rw [aT, aty] at hds
  have hap : ∀ a b, a < wN (hk h x - 100) → b < wN (hk h x - 100) → a ≠ b → (gD (mg Γ)).2 (hk h x - 100) a ≠ (gD (mg Γ)).2 (hk h x - 100) b := fun a b ha hb hne => o.ht.2.2.2 _ a b a1 ha hb hne
  have hbs : gB (mg Γ) < gB (mg Γ) + x.toNat := by omega
  have hlocs : ∀ {i : Nat}, ∀ q ∈ locs ++ [(⟨gB (mg Γ) + x.toNat, i⟩ : Loc)], gB (mg Γ) < q.base := by
    intro i q hq
    rcases List.mem_append.mp hq with hq | hq
    · exact hl q hq
    · rw [List.mem_singleton.mp hq]; exact hbs
  have hkk : ∀ H' : Heap, H'[gB (mg Γ) + x.toNat]? = some (cell.setSlot f.slot (enc (mg Γ) ty v)) → H'.size = H.size → (∀ q, q ≠ gB (mg Γ) + x.toNat → H'[q]? = H[q]?) → W (xP (mx Γ)) (gL (mg Γ)) (xE (mx Γ)) (xR (mx Γ)) (xS (mx Γ)) (xM (mx Γ)) (xA (mx Γ)) (xB (mx Γ)) (xMe (mx Γ)) (xC (mx Γ)) H' (locs ++ [⟨gB (mg Γ) + x.toNat, f.slot⟩]) cells slots (MQx (mg Γ) (mr Γ) (xS (mx Γ)) (xB (mx Γ)) (mn Γ) (mz Γ) (mt Γ)) (F0 (xM (mx Γ)) (pc + 3) ls st) := by
    intro H' e1 e2 e3
    rw [hsl] at e1
    exact kk H' _ ls cells slots (hH.setO h0 h1 a0 (by rw [← aN]; exact ak) hap (by rw [aty]; exact hr) c1 (by rw [aty]; exact e1) e2 e3) hlocs hv1 hc hs
  rw [vA_pos h0]
  rcases hfin with hfin | ⟨g1, g2, g3⟩
  · have hlay2 := o.hts _ (b1 _ (u_in_lay ak))
    unfold u_lay at hlay2
    rw [aT, hfin, if_neg (show ¬ (false = true) from Bool.false_ne_true)] at hlay2
    have h6 := u_store hfc hkC hkind hlay2 hi hds n1 n2
    rcases hw with hw | ⟨host, hw⟩ | ⟨ref, hw, hsf⟩
    · exact W.putK o.hx o.hb (f := f) ⟨o.ho, o.w hw rfl, ⟨_, _, _, hi⟩, hst⟩ (by rw [c2]; exact h6) c1 c3 (by rw [hsl]; exact k2_hasslot e4) rfl rfl hd hkk
    · exact va_WputK o.hx o.hb (f := f) o.ho (o.w hw rfl) hi hst (by rw [c2]; exact h6) c1 c3 (by rw [hsl]; exact k2_hasslot e4) rfl rfl hd hkk
    · exact W.putK o.hx o.hb (f := f) ⟨o.ho, o.w hw rfl, ⟨_, _, _, u_same (o.w hsf rfl) _ hi⟩, hst⟩ (by rw [c2]; exact h6) c1 c3 (by rw [hsl]; exact k2_hasslot e4) rfl rfl hd hkk
  · have h6 := u_fits hfc hkC hkind hlay hi hds n1 n2
    have hcf : (xM (mx Γ)).cls = cf := by
      subst g2
      have ho := o.ho
      rcases hlay with q | q
      · obtain ⟨_, _, c', _, _, _, -, -, hf', -, hd2, -⟩ := Cond.laid_spec (final := false) q
        have e1 : c' = cf := by have := hi.symm.trans hf'; simp at this; exact this.1.symm
        rw [← e1]; exact Option.some.inj (ho.symm.trans hd2)
      · obtain ⟨_, _, c', _, _, _, -, -, hf', -, hd2, -⟩ := Cond.laid_spec (final := true) q
        have e1 : c' = cf := by have := hi.symm.trans hf'; simp at this; exact this.1.symm
        rw [← e1]; exact Option.some.inj (ho.symm.trans hd2)
    exact W.putFinK o.hx o.hb o.ho (o.w g3 rfl) hi hst hcf g1 (by rw [c2]; exact h6) c1 c3 (by rw [hsl]; exact k2_hasslot e4) rfl rfl hd hkk
variable {K : A → CH → Prop}
theorem s_getf (o : Ok Γ own cc nL ret d) (hf : fldOK S k O nm ds ty fin = true) (hw : lnk own idx O nm ds) (hd : decode cc pc = .ok (.getfield idx, 3)) {m : Int → Mo CH A}
    (kk : ∀ v, rg ty v → Sx Γ (fun h => (h, ts)) K (pc + 3) lv (enc (mg Γ) ty v :: st) (m v)) : Sx Γ (fun h => (h, ts)) K pc lv (vA (mg Γ) x :: st) (bnd (gf S k x) m) := by
  intro h a h' e hK
  obtain ⟨r, e1, e2⟩ := bnd_some e
  unfold gf at e1
  split at e1
  · rename_i q
    cases e1
    exact e_getf o hf hw hd q.1 q.2.1 q.2.2 (fun hr => kk _ hr h a h' e2 hK)
  · cases e1
theorem s_putf (o : Ok Γ own cc nL ret d) (hf : fldOK S k O nm ds ty fin = true) (hw : lnk own idx O nm ds) (hd : decode cc pc = .ok (.putfield idx, 3)) (hfin : fin = false ∨ ((xMe (mx Γ)).name = "<init>" ∧ O = own ∧ Cond.fieldLink own idx O nm ds ∈ lw_tbl)) {v : Int} (hr : rg ty v) (hty : ty ≠ .float ∧ ty ≠ .double ∧ ty ≠ .short) {m : Mo CH A}
    (kk : Sx Γ (fun h => (h, ts)) K (pc + 3) lv st m) : Sx Γ (fun h => (h, ts)) K pc lv (enc (mg Γ) ty v :: vA (mg Γ) x :: st) (bnd (pf S k x v) fun _ => m) := by
  intro h a h' e hK
  obtain ⟨r, e1, e2⟩ := bnd_some e
  unfold pf at e1
  split at e1
  · rename_i q
    cases e1
    exact e_putf o hf hw hd hfin q.1 q.2.1 q.2.2 hr hty (kk _ a h' e2 hK)
  · cases e1
end
