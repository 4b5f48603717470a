/-! ROWS 18: the law's world: both sides -/
set_option maxRecDepth 100000
def liftC {A : Type} (F : Mo CH A) : Mo Wd A := fun w => match F w.1 with
  | none => none
  | some (r, h) => some (r, (h, w.2))
noncomputable def liftT {A : Type} (F : Mo TS A) : Mo Wd A := fun w => @ite _ (HT w.1) (Classical.propDecidable _) (match F w.2 with
  | none => none
  | some (r, t) => some (r, (w.1, t))) none
theorem liftC_some {A : Type} {F : Mo CH A} {w : Wd} {r : A} {w' : Wd} (e : liftC F w = some (r, w')) : ∃ h, F w.1 = some (r, h) ∧ w' = (h, w.2) := by
  unfold liftC at e
  cases hF : F w.1 with
  | none => rw [hF] at e; cases e
  | some z =>
    obtain ⟨a, h⟩ := z
    rw [hF] at e
    cases e
    exact ⟨h, rfl, rfl⟩
theorem liftT_some {A : Type} {F : Mo TS A} {w : Wd} {r : A} {w' : Wd} (e : liftT F w = some (r, w')) : HT w.1 ∧ ∃ t, F w.2 = some (r, t) ∧ w' = (w.1, t) := by
  unfold liftT at e
  by_cases hT : HT w.1
  · rw [if_pos hT] at e
    cases hF : F w.2 with
    | none => rw [hF] at e; cases e
    | some z =>
      obtain ⟨a, t⟩ := z
      rw [hF] at e
      cases e
      exact ⟨hT, t, rfl, rfl⟩
  · rw [if_neg hT] at e
    cases e
section
variable {A B : Type} {Γ : Gm} {pc pc' : Nat} {lv lv' : List (Nat × Value)} {st : List Value} {K : A → Wd → Prop} {op : Mo CH B} {ot : Mo TS B} {P : B → Prop} {st' : B → List Value} {mk : B → Mo Wd A}
/-- a row of the component's world in the law's -/
theorem s_C (row : ∀ (ts : TS) (m : B → Mo CH Unit), (∀ v, P v → Sx Γ (fun h => (h, ts)) (fun (_ : Unit) _ => True) pc' lv' (st' v) (m v)) → Sx Γ (fun h => (h, ts)) (fun (_ : Unit) _ => True) pc lv st (bnd op m))
    (kk : ∀ v, P v → Sx Γ (fun w => w) K pc' lv' (st' v) (mk v)) : Sx Γ (fun w => w) K pc lv st (bnd (liftC op) mk) := by
  intro w a w' e hK
  obtain ⟨⟨r, w1⟩, e1, e2⟩ := bnd_some e
  obtain ⟨h1, e3, rfl⟩ := liftC_some e1
  obtain ⟨h, ts⟩ := w
  let m : B → Mo CH Unit := fun v h => @ite _ (mk v (h, ts) = some (a, w')) (Classical.propDecidable _) (some ((), h)) none
  have hrow := row ts m (fun v hv h2 u h3 e4 _ => by
    have e4 : (@ite _ (mk v (h2, ts) = some (a, w')) (Classical.propDecidable _) (some ((), h2)) none) = some (u, h3) := e4
    by_cases q : mk v (h2, ts) = some (a, w')
    · exact kk v hv (h2, ts) a w' q hK
    · rw [if_neg q] at e4
      cases e4)
  refine hrow h () h1 ?_ trivial
  have e5 : op h = some (r, h1) := e3
  show bnd op m h = some ((), h1)
  rw [bnd_of e5]
  show (@ite _ (mk r (h1, ts) = some (a, w')) (Classical.propDecidable _) (some ((), h1)) none) = _
  rw [if_pos e2]
/-- a row of the twin's world in the law's -/
theorem s_T (row : ∀ (h : CH) (_ : HT h) (m : B → Mo TS Unit), (∀ v, P v → Sx Γ (fun t => (h, t)) (fun (_ : Unit) _ => True) pc' lv' (st' v) (m v)) → Sx Γ (fun t => (h, t)) (fun (_ : Unit) _ => True) pc lv st (bnd ot m))
    (kk : ∀ v, P v → Sx Γ (fun w => w) K pc' lv' (st' v) (mk v)) : Sx Γ (fun w => w) K pc lv st (bnd (liftT ot) mk) := by
  intro w a w' e hK
  obtain ⟨⟨r, w1⟩, e1, e2⟩ := bnd_some e
  obtain ⟨hT, t1, e3, rfl⟩ := liftT_some e1
  obtain ⟨h, t⟩ := w
  let m : B → Mo TS Unit := fun v t => @ite _ (mk v (h, t) = some (a, w')) (Classical.propDecidable _) (some ((), t)) none
  have hrow := row h hT m (fun v hv h2 u h3 e4 _ => by
    have e4 : (@ite _ (mk v (h, h2) = some (a, w')) (Classical.propDecidable _) (some ((), h2)) none) = some (u, h3) := e4
    by_cases q : mk v (h, h2) = some (a, w')
    · exact kk v hv (h, h2) a w' q hK
    · rw [if_neg q] at e4
      cases e4)
  refine hrow t () t1 ?_ trivial
  have e5 : ot t = some (r, t1) := e3
  show bnd ot m t = some ((), t1)
  rw [bnd_of e5]
  show (@ite _ (mk r (h, t1) = some (a, w')) (Classical.propDecidable _) (some ((), t1)) none) = _
  rw [if_pos e2]
end
