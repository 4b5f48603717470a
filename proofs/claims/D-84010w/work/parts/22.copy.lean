/-! ROWS 12: System.arraycopy -/
set_option maxRecDepth 100000
section
variable {A : Type} {Γ : Gm} {own : String} {cc : ByteArray} {nL : Nat} {ret : Option FieldType} {d : Nat} {pc : Nat} {lv : List (Nat × Value)} {st : List Value} {h : CH} {ts : TS} {a sp b dp n : Int} {kd : Nat} {K : A → CH → Prop} {idx : Nat}
theorem aty_plain {kd : Nat} (hkd : kd < 11) : aty kd ≠ .float ∧ aty kd ≠ .double ∧ aty kd ≠ .short := by
  have : kd = 0 ∨ kd = 1 ∨ kd = 2 ∨ kd = 3 ∨ kd = 4 ∨ kd = 5 ∨ kd = 6 ∨ kd = 7 ∨ kd = 8 ∨ kd = 9 ∨ kd = 10 := by omega
  rcases this with rfl | rfl | rfl | rfl | rfl | rfl | rfl | rfl | rfl | rfl | rfl <;> exact ⟨(fun q => by cases q), (fun q => by cases q), (fun q => by cases q)⟩
theorem enc_num {g : gC} {kd : Nat} (hkd : kd < 5) (v : Int) : (∃ z, enc g (aty kd) v = .int z) ∨ ∃ z, enc g (aty kd) v = .long z := by
  have : kd = 0 ∨ kd = 1 ∨ kd = 2 ∨ kd = 3 ∨ kd = 4 := by omega
  rcases this with rfl | rfl | rfl | rfl | rfl
  · exact Or.inl ⟨_, rfl⟩
  · exact Or.inr ⟨_, rfl⟩
  · exact Or.inl ⟨_, rfl⟩
  · exact Or.inl ⟨_, rfl⟩
  · exact Or.inl ⟨_, rfl⟩
theorem enc_ref {g : gC} {kd : Nat} (hkd : 5 ≤ kd ∧ kd < 11) (v : Int) : enc g (aty kd) v = vA g v := by
  have := aty_ref hkd
  cases hat : aty kd <;> rw [hat] at this <;> first | rfl | cases this
theorem nn32 {x : Int} (h0 : 0 ≤ x) (hr : R32 x) : ¬ Int32.ofInt x < 0 ∧ (Int32.ofInt x).toNatClampNeg = x.toNat ∧ (Int32.ofInt x).toInt = x := by
  obtain ⟨a, b⟩ := ix_n h0 hr
  have e := w32_eq hr
  unfold w32 at e
  exact ⟨a, b, e⟩
theorem s_acp (o : Ok Γ own cc nL ret (d + 1)) (hkd : kd < 11) (hasg : 5 ≤ kd → ∀ q ∈ alw kd, asg Γ kd q ∧ q ≠ 99) (hw : Cond.methodLink own idx arraycopyName ∈ lw_tbl) (hsp : R32 sp) (hdp : R32 dp) (hn0 : R32 n) {nw : Nat} (hwt : wt st nw) (hn8 : Nat.ble nw 8 = true) (hd : decode cc pc = .ok (.invokestatic idx, 3))
    (w1 : Cond.native arraycopyName ∈ lw_tbl) (w2 : Cond.static arraycopyName ∈ lw_tbl) (w3 : Cond.initialized "java/lang/System" ∈ lw_tbl) {m : Mo CH A}
    (kk : Sx Γ (fun h => (h, ts)) K (pc + 3) lv st m) : Sx Γ (fun h => (h, ts)) K pc lv (vI n :: vI dp :: vA (mg Γ) b :: vI sp :: vA (mg Γ) a :: st) (bnd (acp kd a sp b dp n) fun _ => m) := by
  intro h bb h' e hK
  obtain ⟨r, e1, e2⟩ := bnd_some e
  unfold acp at e1
  split at e1
  · rename_i q
    obtain ⟨a0, a1, ak, b0, b1, bk, s0, d0, n0, ls0, ld0⟩ := q
    cases e1
    intro H locs ls cells slots hH hlo hv1 hc hs T hT X
    obtain ⟨ca, la, ra⟩ := hH.ar a0 a1 ak (by omega)
    obtain ⟨cb, lb, rb⟩ := hH.ar b0 b1 bk (by omega)
    have ra : ∀ i : Int, rg (aty kd) (hv h a i) := ra
    obtain ⟨sp1, sp2, sp3⟩ := nn32 s0 hsp
    obtain ⟨dp1, dp2, dp3⟩ := nn32 d0 hdp
    obtain ⟨nn1, nn2, nn3⟩ := nn32 n0 hn0
    obtain ⟨-, k0, hk0, cm0, hkk0⟩ := o.arr hkd (hl h a) (fun j => enc (mg Γ) (aty kd) (hv h a j))
    obtain ⟨-, k1, hk1, cm1, hkk1⟩ := o.arr hkd (hl h b) (fun j => enc (mg Γ) (aty kd) (hv h b j))
    rw [vA_pos a0, vA_pos b0]
    have hRR := o.hR
    have hpl := aty_plain hkd
    obtain ⟨vm', X', step⟩ := X.arraycopy o.hx o.ho (o.w hw rfl) (o.w w1 rfl) (o.w w2 rfl) (o.w w3 rfl) (src := gB (mg Γ) + a.toNat) (dst := gB (mg Γ) + b.toNat) (cs := arrV (gA (mg Γ) kd) (hl h a) (fun j => enc (mg Γ) (aty kd) (hv h a j))) (cd := arrV (gA (mg Γ) kd) (hl h b) (fun j => enc (mg Γ) (aty kd) (hv h b j))) (srcPos := Int32.ofInt sp) (destPos := Int32.ofInt dp) (n := Int32.ofInt n) (by rw [hT]; exact ca) (by rw [hT]; exact cb)
      (fun _ h => by cases h) (fun _ h => by cases h) (fun h => by cases h) (fun h => by cases h) hk0 hk1 hkk0 hkk1 (by simp) sp1 dp1 nn1
      (by rw [sp3, nn3, arrV_size]; omega) (by rw [dp3, nn3, arrV_size]; omega)
      (fun vm₁ hal i hi => by
        rw [nn2] at hi
        rw [sp2]
        have eg : (arrV (gA (mg Γ) kd) (hl h a) (fun j => enc (mg Γ) (aty kd) (hv h a j))).slots.getD (sp.toNat + i) .null = enc (mg Γ) (aty kd) (hv h a ((sp.toNat + i : Nat) : Int)) := by
          rw [Array.getD_eq_getD_getElem?, arrV_read _ _ (by omega)]
          rfl
        rw [eg]
        refine ⟨(enc_ok _ _ (ra _) hpl.1 hpl.2.1 hpl.2.2).2, ?_⟩
        by_cases q5 : kd < 5
        · rcases enc_num (g := mg Γ) q5 (hv h a ((sp.toNat + i : Nat) : Int)) with ⟨z, hz⟩ | ⟨z, hz⟩ <;> rw [hz] <;> exact trivial
        · have q5 : 5 ≤ kd := by omega
          rw [enc_ref ⟨q5, hkd⟩]
          have hel : okEl h (hk h a) (hv h a ((sp.toNat + i : Nat) : Int)) := hH.2.2.1.2 a a0 a1 (by show 5 ≤ hk h a; omega) (by show hk h a < 11; omega) _
          rw [ak] at hel
          rcases hel with hz | ⟨v0, v1, v2⟩
          · rw [hz]; exact trivial
          · obtain ⟨⟨k, kcomp, comp, g1, g2, g3, ⟨kv, g4⟩, g5⟩, g6⟩ := hasg q5 _ v2
            obtain ⟨cv, d1, d2, d3⟩ := hH.cl v0 v1 g6
            have g1' : (xS (mx Γ)).vm.classes[(arrV (gA (mg Γ) kd) (hl h b) (fun j => enc (mg Γ) (aty kd) (hv h b j))).cls]? = some k := g1
            cases hk1.symm.trans g1'
            cases hkk1.symm.trans g2
            obtain ⟨kC', hkC', -⟩ := hal.2.2 _ _ g4
            obtain ⟨kE', hkE', -⟩ := hal.2.2 _ _ g3
            rw [vA_pos v0]
            refine ⟨cv, (show T.heap[gB (mg Γ) + (hv h a ((sp.toNat + i : Nat) : Int)).toNat]? = some cv by rw [hT]; exact d1), (fun q hq => by rw [d2] at hq; cases hq), ⟨kC', by rw [d3]; exact hkC'⟩, ⟨kE', hkE'⟩, ?_⟩
            show vm₁.assignable _ _ = true
            rw [hal.assignable, d3]
            exact g5)
      (g := F0 (xM (mx Γ)) pc ls (.int (Int32.ofInt n) :: .int (Int32.ofInt dp) :: .ref (gB (mg Γ) + b.toNat) :: .int (Int32.ofInt sp) :: .ref (gB (mg Γ) + a.toNat) :: st)) rfl (by rw [o.hm, ← o.hL]; exact hv1.1) (rest := st) rfl (by rw [o.hb]; exact hd) (by rw [hRR]; show 1 ≤ d + 1; omega) (by
        rw [hRR]
        have := lv_room (m := xM (mx Γ)) (pc := pc) (ls := ls) (rest := .int (Int32.ofInt n) :: .int (Int32.ofInt dp) :: .ref (gB (mg Γ) + b.toNat) :: .int (Int32.ofInt sp) :: .ref (gB (mg Γ) + a.toNat) :: st) (Nat.le_trans hwt (Nat.le_of_ble_eq_true hn8))
        have h9 : nativeFrameWords "java/lang/System" "arraycopy" 5 + 11 ≤ 200 := by decide +kernel
        show _ + _ + _ ≤ 46 * (d + 1) + 192
        omega)
    have e1 : copied (arrV (gA (mg Γ) kd) (hl h a) (fun j => enc (mg Γ) (aty kd) (hv h a j))) (arrV (gA (mg Γ) kd) (hl h b) (fun j => enc (mg Γ) (aty kd) (hv h b j))) (Int32.ofInt sp) (Int32.ofInt dp) (Int32.ofInt n) = arrV (gA (mg Γ) kd) (hl h b) (fun i => enc (mg Γ) (aty kd) (hv (hcpy h a sp b dp n) b i)) := by
      have := va_copied (fun z : Int => enc (mg Γ) (aty kd) z) (gA (mg Γ) kd) (gA (mg Γ) kd) (n0 := hl h a) (n1 := hl h b) (sp := sp.toNat) (dp := dp.toNat) (n := n.toNat) (fun j => hv h a j) (fun j => hv h b j) (by omega)
      unfold copied
      rw [sp2, dp2, nn2, this]
      congr 1
      funext i
      congr 1
      show va_cpy _ _ _ _ _ _ = (if b = b ∧ dp ≤ (i : Int) ∧ (i : Int) < dp + n then hv h a (sp + ((i : Int) - dp)) else hv h b i)
      unfold va_cpy
      by_cases q : dp.toNat ≤ i ∧ i < dp.toNat + n.toNat
      · rw [if_pos q, if_pos ⟨rfl, by omega, by omega⟩]
        show hv h a (((sp.toNat + (i - dp.toNat) : Nat)) : Int) = hv h a (sp + ((i : Int) - dp))
        rw [show (((sp.toNat + (i - dp.toNat) : Nat)) : Int) = sp + ((i : Int) - dp) by omega]
      · rw [if_neg q, if_neg (fun z => q ⟨by omega, by omega⟩)]
    rw [e1] at X' step
    have hlt : gB (mg Γ) + b.toNat < H.size := (Array.getElem?_eq_some_iff.mp cb).1
    obtain ⟨t, u1, u2⟩ := kk _ bb h' e2 hK (H.setIfInBounds (gB (mg Γ) + b.toNat) (arrV (gA (mg Γ) kd) (hl h b) (fun i => enc (mg Γ) (aty kd) (hv (hcpy h a sp b dp n) b i)))) _ ls cells slots (hH.cpy hkd a0 a1 ak b0 b1 bk (by simp [Array.getElem?_setIfInBounds, hlt]) (by simp) (fun q hq => by simp [Array.getElem?_setIfInBounds, Ne.symm hq])) (by
      intro q hq
      rcases List.mem_append.mp hq with hq | hq
      · exact hlo q hq
      · obtain ⟨z, -, hz⟩ := List.mem_map.mp hq
        rw [← hz]
        show gB (mg Γ) < gB (mg Γ) + b.toNat
        omega) hv1 hc hs ((T.setVm vm').setCell (gB (mg Γ) + b.toNat) (arrV (gA (mg Γ) kd) (hl h b) (fun i => enc (mg Γ) (aty kd) (hv (hcpy h a sp b dp n) b i)))) (by rw [← hT]; rfl) X'
    exact ⟨t, step t u1, u2⟩
  · cases e1
end
