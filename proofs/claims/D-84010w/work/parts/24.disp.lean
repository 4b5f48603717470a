/-! ROWS 14: choice by the class, functions that call themselves -/
set_option maxRecDepth 100000
/-- the functions of a group, by their numbers -/
abbrev Rc : Type := Nat → Int → Int → Int → Int → Int → Mo CH Int
def dsp (x : Int) : List (List Nat × Mo CH Int) → Mo CH Int
  | [] => fun _ => none
  | (S, F) :: L => fun h => if 0 < x ∧ x ≤ hn h ∧ hk h x ∈ S then F h else dsp x L h
def selL (x0 y : MethodName) : List Nat → Prop
  | [] => True
  | q :: S => (∃ (c : Nat) (r0 : vw_C), q = 100 + c ∧ wcl[c]? = some r0 ∧ Cond.selects r0.1 x0 y ∈ lw_tbl) ∧ selL x0 y S
theorem selL_at {x0 y : MethodName} : ∀ {S : List Nat}, selL x0 y S → ∀ q ∈ S, ∃ (c : Nat) (r0 : vw_C), q = 100 + c ∧ wcl[c]? = some r0 ∧ Cond.selects r0.1 x0 y ∈ lw_tbl
  | [], _, q, hq => by cases hq
  | q0 :: S, h, q, hq => by
    rcases List.mem_cons.mp hq with e | e
    · subst e; exact h.1
    · exact selL_at h.2 q e
section
variable {g : gC} {ts : TS} {x0 y : MethodName} {rt : Option FieldType} {na d maxL : Nat} {x : Int} {As : List Value} {bytes : ByteArray} {S : List Nat} {F : Mo CH Int} {L : List (List Nat × Mo CH Int)}
theorem VR.nil : VR g ts x0 rt na d x As (dsp x []) := fun _ _ _ e => by cases e
theorem VR.cons (hS : selL x0 y S) (hin : Cond.instanceMethod y ∈ lw_tbl) (hm : MW y (Cond.code y bytes maxL rt) bytes maxL rt na) (hF : SF g y (Cond.code y bytes maxL rt) rt d (vA g x :: As) (fun h => (h, ts)) F) (hL : VR g ts x0 rt na d x As (dsp x L)) : VR g ts x0 rt na d x As (dsp x ((S, F) :: L)) := by
  intro h r h' e
  have e : (if 0 < x ∧ x ≤ hn h ∧ hk h x ∈ S then F h else dsp x L h) = some (r, h') := e
  by_cases q : 0 < x ∧ x ≤ hn h ∧ hk h x ∈ S
  · rw [if_pos q] at e
    obtain ⟨c, r0, e1, e2, e3⟩ := selL_at hS _ q.2.2
    exact ⟨c, r0, y, bytes, maxL, e2, q.1, q.2.1, e1, e3, hin, hm, hF h r h' e⟩
  · rw [if_neg q] at e
    exact hL h r h' e
end
theorem rBl {x : Int} (h : (decide (-128 ≤ x) && decide (x ≤ 127)) = true) : rg .byte x := by
  simp only [Bool.and_eq_true, decide_eq_true_eq] at h
  exact h
section
variable {A : Type} {Γ : Gm} {own : String} {cc : ByteArray} {nL : Nat} {ret : Option FieldType} {d : Nat} {pc : Nat} {lv : List (Nat × Value)} {st : List Value} {ts : TS} {x y : Int} {K : A → CH → Prop}
/-- a new array of references may be stored in an array of arrays only if it is not null -/
theorem pos_ne {x : Int} (h : 0 < x) : x ≠ 0 := by omega
def cstL (Γ : Gm) (C : String) : List Nat → Prop
  | [] => True
  | q :: S => cst Γ q C ∧ cstL Γ C S
theorem cstL_at {C : String} : ∀ {S : List Nat}, cstL Γ C S → ∀ q ∈ S, cst Γ q C
  | [], _, q, hq => by cases hq
  | q0 :: S, h, q, hq => by
    rcases List.mem_cons.mp hq with e | e
    · subst e; exact h.1
    · exact cstL_at h.2 q e
def asgL (Γ : Gm) (kd : Nat) : List Nat → Prop
  | [] => True
  | q :: S => (asg Γ kd q ∧ q ≠ 99) ∧ asgL Γ kd S
theorem asgL_at {kd : Nat} : ∀ {S : List Nat}, asgL Γ kd S → ∀ q ∈ S, asg Γ kd q ∧ q ≠ 99
  | [], _, q, hq => by cases hq
  | q0 :: S, h, q, hq => by
    rcases List.mem_cons.mp hq with e | e
    · subst e; exact h.1
    · exact asgL_at h.2 q e
def insL (Γ : Gm) (q0 : Nat) (C : String) : List Nat → Prop
  | [] => True
  | q :: S => ((q = q0 → cst Γ q C) ∧ (q ≠ q0 → nct Γ q C)) ∧ insL Γ q0 C S
theorem insL_at {q0 : Nat} {C : String} : ∀ {S : List Nat}, insL Γ q0 C S → ∀ q ∈ S, (q = q0 → cst Γ q C) ∧ (q ≠ q0 → nct Γ q C)
  | [], _, q, hq => by cases hq
  | q1 :: S, h, q, hq => by
    rcases List.mem_cons.mp hq with e | e
    · subst e; exact h.1
    · exact insL_at h.2 q e
theorem ins_y {q0 : Nat} {C : String} (h : cst Γ q0 C) : (q0 = q0 → cst Γ q0 C) ∧ (q0 ≠ q0 → nct Γ q0 C) := ⟨fun _ => h, fun e => absurd rfl e⟩
theorem ins_n {q q0 : Nat} {C : String} (hne : (q == q0) = false) (h : nct Γ q C) : (q = q0 → cst Γ q C) ∧ (q ≠ q0 → nct Γ q C) := ⟨fun e => by rw [e] at hne; simp at hne, fun _ => h⟩
end
