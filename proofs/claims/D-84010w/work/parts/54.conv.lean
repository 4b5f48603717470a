/-! the twin's cells become cells of kind 99: the world of the law's loop -/
set_option maxRecDepth 100000
def cvH (h : CH) : CH := (h.1, h.2.1, fun x => if 21 ≤ x ∧ x ≤ 98 then 99 else h.2.2.1 x, h.2.2.2.1, h.2.2.2.2)
def cvT (h : CH) : TS := fun k i => if tj k.toNat = 0 then hv h 21 k else hv h ((21 + tj k.toNat : Nat) : Int) i
/-- what holds of the world after the law's beginning -/
def begOK (h : CH) : Prop := 98 ≤ hn h ∧ hk h 21 = 111 ∧ (∀ j : Nat, j < 78 → 1 ≤ j → hk h ((21 + j : Nat) : Int) = (tq j).2.1 ∧ hl h ((21 + j : Nat) : Int) = (tq j).2.2) ∧ (∀ k : Nat, k < 136 → tj k ≠ 0 → hv h 21 k = ((21 + tj k : Nat) : Int)) ∧ ∀ x : Int, 0 < x → x ≤ hn h → hk h x ≠ 99 ∧ hk h x ≠ 8
theorem tq_small : ∀ j : Nat, j < 78 → (tq j).2.1 < 5 := by decide +kernel
theorem tj_tq : ∀ j : Nat, j < 78 → 1 ≤ j → tj (tq j).1 = j := by decide +kernel
theorem tq_lt : ∀ j : Nat, j < 78 → 1 ≤ j → (tq j).1 < 136 := by decide +kernel
theorem tj_lt : ∀ k : Nat, k < 136 → tj k < 78 := by decide +kernel
def isArr : FieldType → Bool
  | .array _ => true
  | _ => false
theorem tj_arr : ∀ k : Nat, k < 136 → tj k ≠ 0 → isArr (tyX11 k) = true := by decide +kernel
theorem alw_small : ∀ kd : Nat, kd < 11 → ∀ q ∈ alw kd, kd < 5 ∨ kd = 8 ∨ (5 ≤ q ∧ q ≠ 111 ∧ q ≠ 99) := by decide +kernel
theorem HR.conv {g : gC} {h : CH} {ts : TS} {H : Heap} (hH : HR g (h, ts) H) (hb : begOK h) : HR g (cvH h, cvT h) H ∧ HT (cvH h) := by
  obtain ⟨b1, b2, b3, b4, b5⟩ := hb
  obtain ⟨a1, a2, ⟨a3, a4⟩, a5, a6⟩ := hH
  have key : ∀ x : Int, 21 ≤ x → x ≤ 98 → hk h x = 111 ∨ hk h x < 5 := by
    intro x x1 x2
    by_cases e : x = 21
    · subst e; exact Or.inl b2
    · obtain ⟨j, hj⟩ : ∃ j : Nat, x = ((21 + j : Nat) : Int) := ⟨(x - 21).toNat, by omega⟩
      have h1 := (b3 j (by omega) (by omega)).1
      rw [← hj] at h1
      right
      rw [h1]
      exact tq_small j (by omega)
  have kin : ∀ x : Int, 21 ≤ x ∧ x ≤ 98 → hk (cvH h) x = 99 := fun x q => if_pos q
  have kout : ∀ x : Int, ¬ (21 ≤ x ∧ x ≤ 98) → hk (cvH h) x = hk h x := fun x q => if_neg q
  refine ⟨⟨a1, a2, ⟨a3, ?_⟩, a5, ?_⟩, ?_⟩
  · intro x x0 x1 x2 x3 i
    by_cases e : 21 ≤ x ∧ x ≤ 98
    · rw [kin x e] at x3; omega
    · rw [kout x e] at x2 x3 ⊢
      have n8 := (b5 x x0 x1).2
      rcases a4 x x0 x1 x2 x3 i with q | ⟨q1, q2, q3⟩
      · exact Or.inl q
      · refine Or.inr ⟨q1, q2, ?_⟩
        have q3' : hk h (hv h x i) ∈ alw (hk h x) := q3
        have : ¬ (21 ≤ hv h x i ∧ hv h x i ≤ 98) := by
          intro q
          have kk := key _ q.1 q.2
          have aa := alw_small _ x3 _ q3'
          omega
        show hk (cvH h) (hv h x i) ∈ _
        rw [kout _ this]
        exact q3
  · intro x x0 x1
    obtain ⟨c1, c2⟩ := a6 x x0 x1
    unfold cAt at c1 ⊢
    unfold cR at c2 ⊢
    by_cases e : 21 ≤ x ∧ x ≤ 98
    · rw [show hk ((cvH h, cvT h) : Wd).1 x = 99 from kin x e, if_pos rfl, if_pos rfl]
      by_cases e1 : x = 21
      · subst e1
        rw [if_pos (show (21 : Int) = (t0 : Int) from rfl), if_pos (show (21 : Int) = (t0 : Int) from rfl)]
        rw [show hk ((h, ts) : Wd).1 21 = 111 from b2, if_neg (by omega), if_neg (by omega)] at c1 c2
        constructor
        · refine t_OB.to c1 (fun k hk => ?_)
          show enc g (tyX11 k) (hv h 21 k) = tV g (cvT h) k
          unfold tV
          by_cases e2 : tj k = 0
          · rw [if_pos e2]
            show _ = enc g (tyX11 k) (if tj ((k : Int)).toNat = 0 then hv h 21 k else _)
            rw [Int.toNat_natCast, if_pos e2]
          · rw [if_neg e2, b4 k hk e2]
            have := tj_arr k hk e2
            revert this
            cases tyX11 k <;> intro this <;> first | rfl | cases this
        · intro k hk e2
          show rg (tyX11 k) (if tj ((k : Int)).toNat = 0 then hv h 21 k else _)
          rw [Int.toNat_natCast, if_pos e2]
          exact c2 k hk
      · obtain ⟨j, hj⟩ : ∃ j : Nat, x = ((21 + j : Nat) : Int) := ⟨(x - 21).toNat, by omega⟩
        have j1 : j < 78 := by omega
        have j2 : 1 ≤ j := by omega
        have hx : x.toNat - t0 = j := by show x.toNat - 21 = j; omega
        obtain ⟨h1, h2⟩ := b3 j j1 j2
        rw [← hj] at h1 h2
        have h1' : hk ((h, ts) : Wd).1 x = (tq j).2.1 := h1
        have h2' : hl ((h, ts) : Wd).1 x = (tq j).2.2 := h2
        have sm := tq_small j j1
        rw [if_neg (show ¬ x = (t0 : Int) from e1), if_neg (show ¬ x = (t0 : Int) from e1), hx]
        rw [h1', if_neg (by omega), if_pos (by omega)] at c1 c2
        rw [h2'] at c1
        have cv : ∀ i : Int, ((cvH h, cvT h) : Wd).2 (tq j).1 i = hv h x i := by
          intro i
          show (if tj (((tq j).1 : Int)).toNat = 0 then _ else hv h ((21 + tj (((tq j).1 : Int)).toNat : Nat) : Int) i) = _
          rw [Int.toNat_natCast, tj_tq j j1 j2, if_neg (by omega), hj]
        constructor
        · rw [c1]
          congr 2
          funext i
          rw [cv]
        · intro i
          rw [cv]
          exact c2.2 i
    · rw [show hk ((cvH h, cvT h) : Wd).1 x = hk h x from kout x e]
      have n99 := (b5 x x0 x1).1
      have n99' : ¬ hk ((h, ts) : Wd).1 x = 99 := n99
      rw [if_neg n99'] at c1 c2
      rw [if_neg n99, if_neg n99]
      exact ⟨c1, c2⟩
  · refine ⟨b1, fun j hj => kin _ (by show (21 : Int) ≤ ((21 + j : Nat) : Int) ∧ ((21 + j : Nat) : Int) ≤ 98; omega), fun x x0 x1 x2 => ?_⟩
    by_cases e : 21 ≤ x ∧ x ≤ 98
    · exact ⟨e.1, e.2⟩
    · rw [kout x e] at x2
      exact absurd x2 (b5 x x0 x1).1
/-- the law from its start on -/
noncomputable def conv (scr : Int → Int) (sl x m q : Int) : Mo CH (Int × Wd) := fun h => @dite _ (x = 1 ∧ m = 21 ∧ q = 99 ∧ begOK h) (Classical.propDecidable _) (fun _ => (f_law scr sl (cvH h, cvT h)).map (fun r => (r, h))) (fun _ => none)
noncomputable def f_all (scr : Int → Int) (sl : Int) : Mo CH (Int × Wd) := f_beg (conv scr sl)
theorem sf_all {Γ : Gm} {ts : TS} {d : Nat} {scr : Int → Int} {sl : Int} (hS : SCR Γ scr sl) (o : Ok Γ "LazyForgeLaw" cL_law 7 (Option.some Jvm.ClassFile.FieldType.boolean) (d + 614)) : Sx Γ (fun h => (h, ts)) (fun a _ => mt Γ = (0, a.1, a.2)) 0 [(0, vA (mg Γ) (-250))] [] (f_all scr sl) := by
  unfold f_all
  refine sf_beg o _ (fun x m q => ?_)
  intro h a h' e hK
  unfold conv at e
  by_cases hc : x = 1 ∧ m = 21 ∧ q = 99 ∧ begOK h
  · rw [dif_pos hc] at e
    obtain ⟨rfl, rfl, rfl, hb⟩ := hc
    cases hf : f_law scr sl (cvH h, cvT h) with
    | none => rw [hf] at e; cases e
    | some r =>
      rw [hf] at e
      obtain ⟨r1, r2⟩ := r
      cases e
      have := sf_law hS o (cvH h, cvT h) r1 r2 hf hK
      intro H locs ls cells slots hH
      exact this H locs ls cells slots (hH.conv hb).1
  · rw [dif_neg hc] at e
    cases e
noncomputable def hB : CH := ((f_beg (fun x m q => pr (x, m, q)) h0).map (fun r => r.2)).getD h0
theorem begB : f_beg (fun x m q => pr (x, m, q)) h0 = some ((1, 21, 99), hB) := by
  have h1 := beg_1
  unfold hB
  cases hf : f_beg (fun x m q => pr (x, m, q)) h0 with
  | none => rw [hf] at h1; cases h1
  | some r =>
    rw [hf] at h1
    obtain ⟨r1, r2⟩ := r
    have e1 : r1 = (1, 21, 99) := (Prod.mk.inj (Option.some.inj h1)).1
    subst e1
    rfl
theorem f_beg_pr {A : Type} (mk : Int → Int → Int → Mo CH A) : f_beg mk = bnd (f_beg (fun x m q => pr (x, m, q))) (fun r => mk r.1 r.2.1 r.2.2) := by
  unfold f_beg
  simp only [bnd_assoc]
  rfl
theorem beg_4 : (f_beg (fun x m q => pr (x, m, q)) h0).map (fun r => (List.range 99).all fun j => decide (hk r.2 ((1 + j : Nat) : Int) ≠ 99 ∧ hk r.2 ((1 + j : Nat) : Int) ≠ 8)) = some true := by decide +kernel
theorem begOKB : begOK hB := by
  have e := begB
  have h1 := beg_1
  have h2 := beg_2
  have h3 := beg_3
  have h4 := beg_4
  rw [e] at h1 h2 h3 h4
  have n1 : hn hB = 99 := by
    have := Option.some.inj h1
    exact (Prod.mk.inj this).2
  have h2' := Option.some.inj h2
  have h3' := Option.some.inj h3
  have h4' := Option.some.inj h4
  rw [List.all_eq_true] at h2' h3' h4'
  refine ⟨by omega, ?_, ?_, ?_, ?_⟩
  · have := h2' 0 (List.mem_range.mpr (by omega))
    rw [Bool.and_eq_true] at this
    exact of_decide_eq_true this.1
  · intro j j1 j2
    have := h2' j (List.mem_range.mpr j1)
    rw [Bool.and_eq_true, Bool.or_eq_true] at this
    obtain ⟨t1, t2⟩ := this
    have t1 := of_decide_eq_true t1
    rw [if_neg (by omega)] at t1
    refine ⟨t1, ?_⟩
    rcases t2 with t2 | t2
    · have := beq_iff_eq.mp t2; omega
    · exact of_decide_eq_true t2
  · intro k k1 k2
    have := h3' k (List.mem_range.mpr k1)
    rw [Bool.or_eq_true] at this
    rcases this with t | t
    · exact absurd (beq_iff_eq.mp t) k2
    · exact of_decide_eq_true t
  · intro x x0 x1
    obtain ⟨j, hj⟩ : ∃ j : Nat, x = ((1 + j : Nat) : Int) := ⟨(x - 1).toNat, by omega⟩
    have := of_decide_eq_true (h4' j (List.mem_range.mpr (by omega)))
    rw [← hj] at this
    exact this
/-- the world in which the law's loop begins -/
noncomputable def wB : Wd := (cvH hB, cvT hB)
theorem f_all_of {scr : Int → Int} {sl r : Int} {w : Wd} (h : f_law scr sl wB = some (r, w)) : ∃ h', f_all scr sl h0 = some ((r, w), h') := by
  refine ⟨hB, ?_⟩
  unfold f_all
  rw [f_beg_pr]
  rw [bnd_of begB]
  show conv scr sl 1 21 99 hB = _
  unfold conv
  rw [dif_pos ⟨rfl, rfl, rfl, begOKB⟩]
  show (f_law scr sl wB).map _ = _
  rw [h]
  rfl
