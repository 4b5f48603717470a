/-! ROWS 6: new cells; stores of references; casts; the receiver; rows of calls for functions of the world -/
set_option maxRecDepth 100000
/-- one cell more: its kind, its length, the slots that it takes -/
def hnew (h : CH) (kd len sz : Nat) : CH := (h.1 + 1, h.2.1 + sz, fun x => if x = (h.1 : Int) + 1 then kd else h.2.2.1 x, fun x => if x = (h.1 : Int) + 1 then len else h.2.2.2.1 x, fun x i => if x = (h.1 : Int) + 1 then 0 else h.2.2.2.2 x i)
def newo (c : Nat) : Mo CH Int := fun h => if hn h + 1 ≤ NM ∧ hz h + wN c ≤ ZM then some ((hn h : Int) + 1, hnew h (100 + c) 0 (wN c)) else none
def newa (kd : Nat) (n : Int) : Mo CH Int := fun h => if 0 ≤ n ∧ hn h + 1 ≤ NM ∧ hz h + n.toNat ≤ ZM then some ((hn h : Int) + 1, hnew h kd n.toNat n.toNat) else none
theorem enc_0 (g : gC) (ty : FieldType) (hf : ty ≠ .float) (hd : ty ≠ .double) : enc g ty 0 = defaultValue ty := by
  cases ty <;> first | rfl | exact absurd rfl hf | exact absurd rfl hd
theorem rg_0 (ty : FieldType) : rg ty 0 := by
  cases ty <;> first | trivial | exact ⟨by decide, by decide⟩ | exact Or.inl rfl
section
variable {g : gC} {h : CH} {ts : TS} {H H1 : Heap}
theorem HR.new (hH : HR g (h, ts) H) {kd len sz : Nat} (h1 : hn h + 1 ≤ NM) (h2 : hz h + sz ≤ ZM) (hs : H1.size = H.size + 1) (ho : ∀ q, q < H.size → H1[q]? = H[q]?)
    (hc : cAt g (hnew h kd len sz, ts) ((hn h : Int) + 1) H1) (hr : cR (hnew h kd len sz, ts) ((hn h : Int) + 1)) : HR g (hnew h kd len sz, ts) H1 := by
  obtain ⟨e1, e2, e3, e4, e5⟩ := hH
  have e1 : H.size = gB g + 1 + hn h := e1
  have hE : ET (hnew h kd len sz) := by
    intro y y0 y1 y2 y3 i
    by_cases e : y = (hn h : Int) + 1
    · left
      show (if y = (hn h : Int) + 1 then (0 : Int) else _) = 0
      rw [if_pos e]
    · have k1 : hk (hnew h kd len sz) y = hk h y := if_neg e
      have k3 : hv (hnew h kd len sz) y i = hv h y i := if_neg e
      have y1 : y ≤ ((hn h + 1 : Nat) : Int) := y1
      rw [k1] at y2 y3 ⊢
      rw [k3]
      rcases e3.2 y y0 (by show y ≤ (hn h : Int); omega) y2 y3 i with q | ⟨q1, q2, q3⟩
      · exact Or.inl q
      · have q2 : hv h y i ≤ (hn h : Int) := q2
        refine Or.inr ⟨q1, by show hv h y i ≤ ((hn h + 1 : Nat) : Int); omega, ?_⟩
        have k4 : hk (hnew h kd len sz) (hv h y i) = hk h (hv h y i) := if_neg (show ¬ hv h y i = (hn h : Int) + 1 by omega)
        rw [k4]
        exact q3
  refine ⟨?_, fun q hq => ?_, ⟨h1, hE⟩, h2, fun y y0 y1 => ?_⟩
  · show H1.size = gB g + 1 + (hn h + 1)
    omega
  · rw [ho q (by omega)]
    exact e2 q hq
  · by_cases e : y = (hn h : Int) + 1
    · rw [e]; exact ⟨hc, hr⟩
    · have y1' : y ≤ (hn h : Int) := by
        have : y ≤ ((hn h + 1 : Nat) : Int) := y1
        omega
      obtain ⟨a, b⟩ := e5 y y0 y1'
      have k1 : hk (hnew h kd len sz) y = hk h y := if_neg e
      have k2 : hl (hnew h kd len sz) y = hl h y := if_neg e
      have k3 : hv (hnew h kd len sz) y = hv h y := by funext i; exact if_neg e
      have k4 : H1[gB g + y.toNat]? = H[gB g + y.toNat]? := ho _ (by omega)
      constructor
      · unfold cAt at a ⊢
        show (if hk (hnew h kd len sz) y = 99 then (if y = (t0 : Int) then _ else _) else if hk (hnew h kd len sz) y < 99 then H1[gB g + y.toNat]? = some (arrV (gA g (hk (hnew h kd len sz) y)) (hl (hnew h kd len sz) y) (fun i => enc g (aty (hk (hnew h kd len sz) y)) (hv (hnew h kd len sz) y i))) else t_OB (gB g + y.toNat) ((gD g).1 (hk (hnew h kd len sz) y - 100)) (wN (hk (hnew h kd len sz) y - 100)) ((gD g).2 (hk (hnew h kd len sz) y - 100)) H1 (fun k => enc g (wty (hk (hnew h kd len sz) y - 100) k) (hv (hnew h kd len sz) y k)))
        rw [k1, k2, k3]
        by_cases q1 : hk h y = 99
        · rw [if_pos q1] at a ⊢
          by_cases q2 : y = (t0 : Int)
          · rw [if_pos q2] at a ⊢
            exact a.kept k4
          · rw [if_neg q2] at a ⊢
            rw [k4]; exact a
        · rw [if_neg q1] at a ⊢
          by_cases q2 : hk h y < 99
          · rw [if_pos q2] at a ⊢
            rw [k4]; exact a
          · rw [if_neg q2] at a ⊢
            exact a.kept k4
      · unfold cR at b ⊢
        show (if hk (hnew h kd len sz) y = 99 then _ else if hk (hnew h kd len sz) y < 99 then hl (hnew h kd len sz) y ≤ 2147483647 ∧ ∀ i : Int, rg (aty (hk (hnew h kd len sz) y)) (hv (hnew h kd len sz) y i) else ∀ k : Nat, k < wN (hk (hnew h kd len sz) y - 100) → rg (wty (hk (hnew h kd len sz) y - 100) k) (hv (hnew h kd len sz) y k))
        rw [k1, k2, k3]
        exact b
theorem hnew_k {kd len sz : Nat} : hk (hnew h kd len sz) ((hn h : Int) + 1) = kd := if_pos rfl
theorem hnew_l {kd len sz : Nat} : hl (hnew h kd len sz) ((hn h : Int) + 1) = len := if_pos rfl
theorem hnew_v {kd len sz : Nat} : hv (hnew h kd len sz) ((hn h : Int) + 1) = fun _ => 0 := by funext i; exact if_pos rfl
theorem HR.newA (hH : HR g (h, ts) H) {kd n : Nat} (hkd : kd < 11) (h1 : hn h + 1 ≤ NM) (h2 : hz h + n ≤ ZM) (hs : H1.size = H.size + 1) (ho : ∀ q, q < H.size → H1[q]? = H[q]?)
    (hc : H1[H.size]? = some (arrV (gA g kd) n (fun _ => defaultValue (aty kd)))) : HR g (hnew h kd n n, ts) H1 := by
  have e1 : H.size = gB g + 1 + hn h := hH.1
  have hne : (aty kd) ≠ .float ∧ (aty kd) ≠ .double := by
    unfold aty
    split <;> exact ⟨(fun q => by cases q), (fun q => by cases q)⟩
  have hz9 : ZM = 7291370 := rfl
  refine hH.new h1 h2 hs ho ?_ ?_
  · unfold cAt
    show (if hk (hnew h kd n n) ((hn h : Int) + 1) = 99 then _ else if hk (hnew h kd n n) ((hn h : Int) + 1) < 99 then H1[gB g + ((hn h : Int) + 1).toNat]? = some (arrV (gA g (hk (hnew h kd n n) ((hn h : Int) + 1))) (hl (hnew h kd n n) ((hn h : Int) + 1)) (fun i => enc g (aty (hk (hnew h kd n n) ((hn h : Int) + 1))) (hv (hnew h kd n n) ((hn h : Int) + 1) i))) else _)
    rw [hnew_k, hnew_l, hnew_v, if_neg (by omega), if_pos (by omega), show gB g + ((hn h : Int) + 1).toNat = H.size by omega, hc]
    congr 2
    funext i
    exact (enc_0 g _ hne.1 hne.2).symm
  · unfold cR
    show (if hk (hnew h kd n n) ((hn h : Int) + 1) = 99 then _ else if hk (hnew h kd n n) ((hn h : Int) + 1) < 99 then hl (hnew h kd n n) ((hn h : Int) + 1) ≤ 2147483647 ∧ ∀ i : Int, rg (aty (hk (hnew h kd n n) ((hn h : Int) + 1))) (hv (hnew h kd n n) ((hn h : Int) + 1) i) else _)
    rw [hnew_k, hnew_l, hnew_v, if_neg (by omega), if_pos (by omega)]
    exact ⟨by omega, fun _ => rg_0 _⟩
end
section
variable {A : Type} {Γ : Gm} {own : String} {cc : ByteArray} {nL : Nat} {ret : Option FieldType} {d : Nat} {pc : Nat} {lv : List (Nat × Value)} {st : List Value} {h : CH} {ts : TS} {a i v n x : Int} {kd : Nat} {K : A → CH → Prop} {idx : Nat}
/-- the class c of the table can be made -/
def mk_ok (c : Nat) (C : String) : Prop := ∃ r, wcl[c]? = some r ∧ r.1 = C ∧ Cond.instantiable C (wN c) ∈ lw_tbl ∧ Cond.initialized C ∈ lw_tbl ∧ ∀ j, j < wN c → wty c j ≠ .float ∧ wty c j ≠ .double
theorem s_new (o : Ok Γ own cc nL ret d) {c : Nat} {C : String} (hok : mk_ok c C) (hw : Cond.classLink own idx C ∈ lw_tbl) (hd : decode cc pc = .ok (.new idx, 3)) {m : Int → Mo CH A}
    (kk : ∀ x, 0 < x → Sx Γ (fun h => (h, ts)) K (pc + 3) lv (vA (mg Γ) x :: st) (m x)) : Sx Γ (fun h => (h, ts)) K pc lv st (bnd (newo c) m) := by
  intro h b h' e hK
  obtain ⟨r, e1, e2⟩ := bnd_some e
  unfold newo at e1
  split at e1
  · rename_i q
    obtain ⟨q1, q2⟩ := q
    cases e1
    obtain ⟨r, hr, rfl, hins, hini, hfd⟩ := hok
    intro H locs ls cells slots hH hlo hv1 hc hs
    have f1 : H.size = gB (mg Γ) + 1 + hn h := hH.1
    have hc : mn Γ + cells = hn h := hc
    have hs : mz Γ + slots = hz h := hs
    obtain ⟨b0, b1, b2⟩ := wcf_ok _ _ hr
    have hKn := o.ht.2.1.1 _ _ hr
    have hRR := o.hR
    refine W.newcK o.hx o.hb o.ho (o.w hw rfl) (o.w hins rfl) (o.w hini rfl) rfl hd (by rw [hRR]; show cells + 1 ≤ NM - mn Γ; omega) (by rw [hRR]; show slots + wN c ≤ ZM - mz Γ; omega) hKn.2.1 rfl (fun H1 kC hkC g1 g2 g3 => ?_)
    have k1 := kk ((hn h : Int) + 1) (by omega) (hnew h (100 + c) 0 (wN c)) b h' e2 hK H1 locs ls (cells + 1) (slots + wN c) (hH.new q1 q2 g2 g3 ?_ ?_) hlo hv1 (by show mn Γ + (cells + 1) = hn h + 1; omega) (by show mz Γ + (slots + wN c) = hz h + wN c; omega)
    · rw [vA_pos (by omega), show gB (mg Γ) + ((hn h : Int) + 1).toNat = H.size by omega] at k1
      exact k1
    · unfold cAt
      show (if hk (hnew h (100 + c) 0 (wN c)) ((hn h : Int) + 1) = 99 then _ else if hk (hnew h (100 + c) 0 (wN c)) ((hn h : Int) + 1) < 99 then _ else t_OB (gB (mg Γ) + ((hn h : Int) + 1).toNat) ((gD (mg Γ)).1 (hk (hnew h (100 + c) 0 (wN c)) ((hn h : Int) + 1) - 100)) (wN (hk (hnew h (100 + c) 0 (wN c)) ((hn h : Int) + 1) - 100)) ((gD (mg Γ)).2 (hk (hnew h (100 + c) 0 (wN c)) ((hn h : Int) + 1) - 100)) H1 (fun k => enc (mg Γ) (wty (hk (hnew h (100 + c) 0 (wN c)) ((hn h : Int) + 1) - 100) k) (hv (hnew h (100 + c) 0 (wN c)) ((hn h : Int) + 1) k)))
      rw [hnew_k, hnew_v, if_neg (by omega), if_neg (by omega), show 100 + c - 100 = c by omega, show gB (mg Γ) + ((hn h : Int) + 1).toNat = H.size by omega]
      have hb := u_born (wty c) o.hts b1 hKn hkC g1 b2
      rw [b0] at hb
      exact hb.to (fun j hj => (enc_0 _ _ (hfd j hj).1 (hfd j hj).2).symm)
    · unfold cR
      show (if hk (hnew h (100 + c) 0 (wN c)) ((hn h : Int) + 1) = 99 then _ else if hk (hnew h (100 + c) 0 (wN c)) ((hn h : Int) + 1) < 99 then _ else ∀ k : Nat, k < wN (hk (hnew h (100 + c) 0 (wN c)) ((hn h : Int) + 1) - 100) → rg (wty (hk (hnew h (100 + c) 0 (wN c)) ((hn h : Int) + 1) - 100) k) (hv (hnew h (100 + c) 0 (wN c)) ((hn h : Int) + 1) k))
      rw [hnew_k, hnew_v, if_neg (by omega), if_neg (by omega)]
      exact fun _ _ => rg_0 _
  · cases e1
theorem ix_n {n : Int} (h0 : 0 ≤ n) (hr : R32 n) : ¬ Int32.ofInt n < 0 ∧ (Int32.ofInt n).toNatClampNeg = n.toNat := by
  have h1 : n < ((n.toNat + 1 : Nat) : Int) := by omega
  obtain ⟨a, b⟩ := ix_in h0 h1 hr
  exact ⟨fun q => a (Or.inl q), b⟩
/-- a new array of numbers -/
theorem s_newa (o : Ok Γ own cc nL ret d) {at0 : ArrayType} (hkd : kd < 11) (hat : newarray.typeOf at0 = aty kd) (hcb : componentBytes (aty kd) ≤ 8) (hra : (xS (mx Γ)).vm.findClass ("[" ++ (aty kd).toString) = some (gA (mg Γ) kd)) (hw : Cond.arrayClass (aty kd) ∈ lw_tbl) (hn0 : R32 n) (hd : decode cc pc = .ok (.newarray at0, 2)) {m : Int → Mo CH A}
    (kk : ∀ x, 0 < x → Sx Γ (fun h => (h, ts)) K (pc + 2) lv (vA (mg Γ) x :: st) (m x)) : Sx Γ (fun h => (h, ts)) K pc lv (vI n :: st) (bnd (newa kd n) m) := by
  intro h b h' e hK
  obtain ⟨r, e1, e2⟩ := bnd_some e
  unfold newa at e1
  split at e1
  · rename_i q
    obtain ⟨q0, q1, q2⟩ := q
    cases e1
    intro H locs ls cells slots hH hlo hv1 hc hs
    have f1 : H.size = gB (mg Γ) + 1 + hn h := hH.1
    have hc : mn Γ + cells = hn h := hc
    have hs : mz Γ + slots = hz h := hs
    obtain ⟨p1, p2⟩ := ix_n q0 hn0
    have hZ : ZM = 7291370 := rfl
    have hRR := o.hR
    refine va_newaK o.hx o.hb (by rw [hat]; exact o.w hw rfl) rfl hd rfl p1 p2 (by rw [hat]; calc n.toNat * componentBytes (aty kd) ≤ n.toNat * 8 := Nat.mul_le_mul_left _ hcb
      _ ≤ 536870912 := by omega) (by rw [hRR]; show cells + 1 ≤ NM - mn Γ; omega) (by rw [hRR]; show slots + n.toNat ≤ ZM - mz Γ; omega) rfl (fun H1 cA g1 g2 g3 g4 g5 => ?_)
    rw [hat] at g1 g5
    cases hra.symm.trans g5
    have k1 := kk ((hn h : Int) + 1) (by omega) (hnew h kd n.toNat n.toNat) b h' e2 hK H1 locs ls (cells + 1) (slots + n.toNat) (hH.newA hkd q1 q2 g2 g3 g1) hlo hv1 (by show mn Γ + (cells + 1) = hn h + 1; omega) (by show mz Γ + (slots + n.toNat) = hz h + n.toNat; omega)
    rw [vA_pos (by omega), show gB (mg Γ) + ((hn h : Int) + 1).toNat = H.size by omega] at k1
    exact k1
  · cases e1
theorem Ok.ra (o : Ok Γ own cc nL ret d) {kd : Nat} (hkd : kd < 11) : (xS (mx Γ)).vm.findClass ("[" ++ (aty kd).toString) = some (gA (mg Γ) kd) := by
  have h := (o.ht.2.1.2 kd _ (wtys_at _ hkd)).2
  have : kd = 0 ∨ kd = 1 ∨ kd = 2 ∨ kd = 3 ∨ kd = 4 ∨ kd = 5 ∨ kd = 6 ∨ kd = 7 ∨ kd = 8 ∨ kd = 9 ∨ kd = 10 := by omega
  rcases this with rfl | rfl | rfl | rfl | rfl | rfl | rfl | rfl | rfl | rfl | rfl
  · exact h
  · exact h
  · exact h
  · exact h
  · exact h
  · obtain ⟨_, _, _, _, _, q⟩ := h; exact q
  · obtain ⟨_, _, _, _, _, q⟩ := h; exact q
  · obtain ⟨_, _, _, _, _, q⟩ := h; exact q
  · exact h
  · exact h
  · obtain ⟨_, _, _, _, _, q⟩ := h; exact q
/-- a new array of references -/
theorem s_anew (o : Ok Γ own cc nL ret d) (hkd : kd < 11) {C : String} (hat : aty kd = .object C ∨ ∃ t, aty kd = .array t ∧ C = (FieldType.array t).toString) (hcl : Cond.classLink own idx C ∈ lw_tbl) (hw : Cond.arrayOver (aty kd) ∈ lw_tbl) (hn0 : R32 n) (hd : decode cc pc = .ok (.anewarray idx, 3)) {m : Int → Mo CH A}
    (kk : ∀ x, 0 < x → Sx Γ (fun h => (h, ts)) K (pc + 3) lv (vA (mg Γ) x :: st) (m x)) : Sx Γ (fun h => (h, ts)) K pc lv (vI n :: st) (bnd (newa kd n) m) := by
  intro h b h' e hK
  obtain ⟨r, e1, e2⟩ := bnd_some e
  unfold newa at e1
  split at e1
  · rename_i q
    obtain ⟨q0, q1, q2⟩ := q
    cases e1
    intro H locs ls cells slots hH hlo hv1 hc hs
    have f1 : H.size = gB (mg Γ) + 1 + hn h := hH.1
    have hc : mn Γ + cells = hn h := hc
    have hs : mz Γ + slots = hz h := hs
    obtain ⟨p1, p2⟩ := ix_n q0 hn0
    have hZ : ZM = 7291370 := rfl
    have hRR := o.hR
    have hra := o.ra hkd
    have fin : ∀ cA : ClassId, cA = gA (mg Γ) kd → defaultValue (aty kd) = .null → W (xP (mx Γ)) (gL (mg Γ)) (xE (mx Γ)) (xR (mx Γ)) (xS (mx Γ)) (xM (mx Γ)) (xA (mx Γ)) (xB (mx Γ)) (xMe (mx Γ)) (xC (mx Γ)) (H.push ({ cls := cA, slots := Array.replicate (Int32.ofInt n).toNatClampNeg .null, vm := .none } : Cell)) locs (cells + 1) (slots + (Int32.ofInt n).toNatClampNeg) (MQx (mg Γ) (mr Γ) (xS (mx Γ)) (xB (mx Γ)) (mn Γ) (mz Γ) (mt Γ)) (F0 (xM (mx Γ)) (pc + 3) ls (.ref H.size :: st)) := by
      intro cA hcA hdv
      subst hcA
      rw [p2]
      have k1 := kk ((hn h : Int) + 1) (by omega) (hnew h kd n.toNat n.toNat) b h' e2 hK (H.push ({ cls := gA (mg Γ) kd, slots := Array.replicate n.toNat .null, vm := .none } : Cell)) locs ls (cells + 1) (slots + n.toNat) (hH.newA hkd q1 q2 (Array.size_push ..) (fun q hq => by rw [Array.getElem?_push, if_neg (Nat.ne_of_lt hq)]) (by rw [Array.getElem?_push_size, ← arrV_new, hdv])) hlo hv1 (by show mn Γ + (cells + 1) = hn h + 1; omega) (by show mz Γ + (slots + n.toNat) = hz h + n.toNat; omega)
      rw [vA_pos (by omega), show gB (mg Γ) + ((hn h : Int) + 1).toNat = H.size by omega] at k1
      exact k1
    rcases hat with hat | ⟨t, hat, rfl⟩
    · rw [hat] at hw hra
      refine W.anew o.hx o.hb o.ho (o.w hcl rfl) (o.w hw rfl) rfl hd rfl p1 (by rw [p2]; omega) (by rw [hRR]; show cells + 1 ≤ NM - mn Γ; omega) (by rw [hRR, p2]; show slots + n.toNat ≤ ZM - mz Γ; omega) (fun cA kA comp g1 g2 g3 g4 => ?_)
      exact fin cA (Option.some.inj (g1.symm.trans hra)) (by rw [hat]; rfl)
    · rw [hat] at hw hra
      refine W.anewA o.hx o.hb o.ho (o.w hcl rfl) (o.w hw rfl) rfl hd rfl p1 (by rw [p2]; omega) (by rw [hRR]; show cells + 1 ≤ NM - mn Γ; omega) (by rw [hRR, p2]; show slots + n.toNat ≤ ZM - mz Γ; omega) (fun cA kA comp g1 g2 g3 g4 => ?_)
      exact fin cA (Option.some.inj (g1.symm.trans hra)) (by rw [hat]; rfl)
  · cases e1
end
