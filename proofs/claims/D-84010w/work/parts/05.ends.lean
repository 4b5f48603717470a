/-! ROWS 2: loops, switches, ends -/
set_option maxRecDepth 100000
def itr {σ S A : Type} (b : S → Mo σ (S ⊕ A)) : Nat → S → Mo σ A
  | 0, _ => fun _ => none
  | n + 1, x => bnd (b x) (fun r => match r with
    | .inl y => itr b n y
    | .inr a => pr a)

noncomputable def Loop {σ S A : Type} (b : S → Mo σ (S ⊕ A)) (x : S) : Mo σ A := fun s => @dite _ (∃ q, ∃ n, itr b n x s = some q) (Classical.propDecidable _) (fun h => some (Classical.choose h)) (fun _ => none)
theorem bnd_some {σ A B : Type} {m : Mo σ A} {k : A → Mo σ B} {s : σ} {q : B × σ} (h : bnd m k s = some q) : ∃ r, m s = some r ∧ k r.1 r.2 = some q := by
  unfold bnd at h
  cases hm : m s with
  | none => rw [hm] at h; cases h
  | some r => rw [hm] at h; exact ⟨r, rfl, h⟩
theorem bnd_of {σ A B : Type} {m : Mo σ A} {k : A → Mo σ B} {s : σ} {r : A × σ} (h : m s = some r) : bnd m k s = k r.1 r.2 := by
  unfold bnd
  rw [h]
theorem itr_mono {σ S A : Type} {b : S → Mo σ (S ⊕ A)} : ∀ (n : Nat) (x : S) (s : σ) (q : A × σ), itr b n x s = some q → ∀ k, itr b (n + k) x s = some q := by
  intro n
  induction n with
  | zero => intro x s q h; cases h
  | succ n ih =>
    intro x s q h k
    obtain ⟨r, h1, h2⟩ := bnd_some h
    rw [show n + 1 + k = n + k + 1 by omega]
    show bnd (b x) _ s = some q
    rw [bnd_of h1]
    obtain ⟨r1, r2⟩ := r
    cases r1 with
    | inl y => exact ih y r2 q h2 k
    | inr a => exact h2
theorem itr_one {σ S A : Type} {b : S → Mo σ (S ⊕ A)} {n k : Nat} {x : S} {s : σ} {q q' : A × σ} (h : itr b n x s = some q) (h' : itr b k x s = some q') : q = q' := by
  have a := itr_mono n x s q h k
  have c := itr_mono k x s q' h' n
  rw [Nat.add_comm] at c
  exact Option.some.inj (a.symm.trans c)
theorem Loop_of {σ S A : Type} {b : S → Mo σ (S ⊕ A)} {n : Nat} {x : S} {s : σ} {q : A × σ} (h : itr b n x s = some q) : Loop b x s = some q := by
  have hx : ∃ q, ∃ n, itr b n x s = some q := ⟨q, n, h⟩
  unfold Loop
  rw [dif_pos hx]
  obtain ⟨k, hk⟩ := Classical.choose_spec hx
  rw [itr_one hk h]
theorem Loop_some {σ S A : Type} {b : S → Mo σ (S ⊕ A)} {x : S} {s : σ} {q : A × σ} (h : Loop b x s = some q) : ∃ n, itr b n x s = some q := by
  unfold Loop at h
  by_cases hx : ∃ q, ∃ n, itr b n x s = some q
  · rw [dif_pos hx] at h
    obtain ⟨k, hk⟩ := Classical.choose_spec hx
    exact ⟨k, by rw [hk]; exact h⟩
  · rw [dif_neg hx] at h
    cases h
/-- a turn of a loop -/
theorem Loop_eq {σ S A : Type} (b : S → Mo σ (S ⊕ A)) (x : S) : Loop b x = bnd (b x) (fun r => match r with
    | .inl y => Loop b y
    | .inr a => pr a) := by
  funext s
  cases hL : Loop b x s with
  | some q =>
    obtain ⟨n, hn⟩ := Loop_some hL
    cases n with
    | zero => cases hn
    | succ n =>
      obtain ⟨r, h1, h2⟩ := bnd_some hn
      rw [bnd_of h1]
      obtain ⟨r1, r2⟩ := r
      cases r1 with
      | inl y => exact (Loop_of h2).symm
      | inr a => exact h2.symm
  | none =>
    cases hb : bnd (b x) (fun r => match r with | .inl y => Loop b y | .inr a => pr a) s with
    | none => rfl
    | some q =>
      exfalso
      obtain ⟨r, h1, h2⟩ := bnd_some hb
      obtain ⟨r1, r2⟩ := r
      have : ∃ n, itr b (n + 1) x s = some q := by
        cases r1 with
        | inl y =>
          obtain ⟨n, hn⟩ := Loop_some h2
          exact ⟨n, by show bnd (b x) _ s = some q; rw [bnd_of h1]; exact hn⟩
        | inr a => exact ⟨0, by show bnd (b x) _ s = some q; rw [bnd_of h1]; exact h2⟩
      obtain ⟨n, hn⟩ := this
      rw [Loop_of hn] at hL
      cases hL
section
variable {σ S A B : Type} {Γ : Gm} {own : String} {cc : ByteArray} {nL : Nat} {ret : Option FieldType} {d : Nat} {pc : Nat} {lv lv' : List (Nat × Value)} {st : List Value} {wld : σ → Wd} {K : A → σ → Prop} {m m1 m2 : Mo σ A} {w : Wd}
/-- what an answer within a loop's body means: once more from its head, or an answer of the whole -/
def KL (Γ : Gm) (wld : σ → Wd) (ok : S → Prop) (K : A → σ → Prop) (pc : Nat) (lv : S → List (Nat × Value)) (st : List Value) : S ⊕ A → σ → Prop := fun r s => match r with
  | .inl y => ok y → E Γ pc (lv y) st (wld s)
  | .inr a => K a s
theorem s_loop (ok : S → Prop) (lvf : S → List (Nat × Value)) {b : S → Mo σ (S ⊕ A)} (hb : ∀ x, ok x → Sx Γ wld (KL Γ wld ok K pc lvf st) pc (lvf x) st (b x)) {x : S} (hx : ok x) : Sx Γ wld K pc (lvf x) st (Loop b x) := by
  intro s a s' h hK
  obtain ⟨n, hn⟩ := Loop_some h
  induction n generalizing x s with
  | zero => cases hn
  | succ n ih =>
    obtain ⟨r, h1, h2⟩ := bnd_some hn
    obtain ⟨r1, r2⟩ := r
    cases r1 with
    | inl y => exact hb x hx s _ _ h1 (fun hy => ih hy r2 (Loop_of h2) h2)
    | inr z =>
      have e : some (z, r2) = some (a, s') := h2
      cases e
      exact hb x hx s _ _ h1 hK
/-- back to a loop's head -/
theorem s_back {ok : S → Prop} {lvf : S → List (Nat × Value)} {y : S} (hy : ok y) (hl : lvf y = lv) : Sx Γ wld (KL Γ wld ok K pc lvf st) pc lv st (pr (.inl y)) := by
  intro s a s' h hK
  cases h
  rw [← hl]
  exact hK hy
/-- out of a loop, into what stands behind it -/
theorem s_out {ok : S → Prop} {lvf : S → List (Nat × Value)} {st' : List Value} {pc' : Nat} {lw : List (Nat × Value)} {m : Mo σ A} (k : Sx Γ wld K pc' lw st' m) : Sx Γ wld (KL Γ wld ok K pc lvf st) pc' lw st' (bnd m (fun a => pr (.inr a))) := by
  intro s a s' h hK
  obtain ⟨r, h1, h2⟩ := bnd_some h
  cases h2
  exact k s _ _ h1 hK
theorem W.mono {p : Program} {l : Launch} {e : Env} {R : Room} {s : State} {m : MethodId} {args : Array Value} {below : List Frame} {meth : Method} {c : Code} {H : Heap} {locs : List Loc} {cells slots : Nat} {Q Q' : State → Prop} {g : JFrame} (h : ∀ t, Q t → Q' t) (k : W p l e R s m args below meth c H locs cells slots Q g) : W p l e R s m args below meth c H locs cells slots Q' g := by
  intro T hT X
  obtain ⟨t, a, b⟩ := k T hT X
  exact ⟨t, a, h t b⟩
/-- the kit's end is ours -/
theorem MQ_x {g : gC} {a : Array Value} {s : State} {below : List Frame} {n z cells slots : Nat} {tg : Tg} (hr : ∀ ty, ret = some ty → tg.1 = 0 → rg ty tg.2.1) (en : n + cells = hn tg.2.2.1) (ez : z + slots = hz tg.2.2.1) (t : State) (h : MQ below (fun _ _ o t => o = outc g ret tg ∧ HR g tg.2.2 t.heap) a s cells slots (fun q => gB g < q) t) : MQx g ret s below n z tg t := by
  obtain ⟨o, h1, h2, ⟨rfl, h3⟩, L, ⟨⟨v, hv⟩, h4, h5⟩, h6⟩ := h
  refine ⟨h1, h2, hr, h3, by omega, by omega, L, h4, ?_, h6⟩
  rw [show hn tg.2.2.1 - n = cells by omega, show hz tg.2.2.1 - z = slots by omega]
  exact h5
theorem e_iret (o : Ok Γ own cc nL ret d) {ty : FieldType} (hty : ret = some ty) (hv : (∀ x, rg ty x → narrow ty (vI x) = vI x) ∧ ∀ g x, enc g ty x = vI x) {x : Int} (hx : rg ty x) (hd : decode cc pc = .ok (.ireturn, 1)) (ht : mt Γ = (0, x, w)) : E Γ pc lv [vI x] w := by
  intro H locs ls cells slots hH hl _ hc hs
  subst hty
  refine W.mono (fun t h => MQ_x (ret := mr Γ) (a := xA (mx Γ)) (tg := mt Γ) ?_ (cells := cells) (slots := slots) (by rw [ht]; exact hc) (by rw [ht]; exact hs) t h) (W.zret (ty := ty) o.hx o.hb o.hr (hv.1 x hx) (fun t h1 h2 => ?_) hl hd o.hk)
  · intro ty' h1 h2
    rw [ht]
    rw [o.hq] at h1
    cases h1
    exact hx
  · rw [ht, o.hq]
    refine ⟨?_, by rw [h1]; exact hH⟩
    show Outcome.returned (some (vI x)) = _
    simp only [outc, Option.map_some, hv.2]
    rfl
theorem e_lret (o : Ok Γ own cc nL ret d) (hty : ret = some .long) {x : Int} (hx : R64 x) (hd : decode cc pc = .ok (.lreturn, 1)) (ht : mt Γ = (0, x, w)) : E Γ pc lv [vJ x] w := by
  intro H locs ls cells slots hH hl _ hc hs
  subst hty
  refine W.mono (fun t h => MQ_x (ret := mr Γ) (a := xA (mx Γ)) (tg := mt Γ) ?_ (cells := cells) (slots := slots) (by rw [ht]; exact hc) (by rw [ht]; exact hs) t h) (W.lret o.hx o.hb o.hr (fun t h1 h2 => ?_) hl hd o.hk)
  · intro ty' h1 h2
    rw [ht]
    rw [o.hq] at h1
    cases h1
    exact hx
  · rw [ht, o.hq]
    exact ⟨rfl, by rw [h1]; exact hH⟩
theorem e_vret (o : Ok Γ own cc nL ret d) (hty : ret = none) (hd : decode cc pc = .ok (.return_, 1)) (ht : mt Γ = (0, 0, w)) : E Γ pc lv [] w := by
  intro H locs ls cells slots hH hl _ hc hs
  subst hty
  refine W.mono (fun t h => MQ_x (ret := mr Γ) (a := xA (mx Γ)) (tg := mt Γ) ?_ (cells := cells) (slots := slots) (by rw [ht]; exact hc) (by rw [ht]; exact hs) t h) (W.vret o.hx o.hb o.hr (fun t h1 h2 => ?_) hl hd o.hk)
  · intro ty' h1 h2
    rw [o.hq] at h1
    cases h1
  · rw [ht, o.hq]
    exact ⟨rfl, by rw [h1]; exact hH⟩
theorem e_aret (o : Ok Γ own cc nL ret d) {ty : FieldType} (hty : ret = some ty) (hr : (∃ n, ty = .object n) ∨ ∃ t, ty = .array t) {x : Int} (hd : decode cc pc = .ok (.areturn, 1)) (ht : mt Γ = (0, x, w)) : E Γ pc lv [vA (mg Γ) x] w := by
  intro H locs ls cells slots hH hl _ hc hs
  subst hty
  refine W.mono (fun t h => MQ_x (ret := mr Γ) (a := xA (mx Γ)) (tg := mt Γ) ?_ (cells := cells) (slots := slots) (by rw [ht]; exact hc) (by rw [ht]; exact hs) t h) (W.aret o.hx o.hb o.hr hr ?_ (fun t h1 h2 => ?_) hl hd o.hk)
  · intro ty' h1 h2
    rw [o.hq] at h1
    cases h1
    rcases hr with ⟨n, rfl⟩ | ⟨n, rfl⟩ <;> trivial
  · unfold vA va_rf
    split
    · exact Or.inl rfl
    · exact Or.inr ⟨_, rfl⟩
  · rw [ht, o.hq]
    refine ⟨?_, by rw [h1]; exact hH⟩
    rcases hr with ⟨n, rfl⟩ | ⟨n, rfl⟩ <;> rfl
theorem i_int : (∀ x, rg .int x → narrow .int (vI x) = vI x) ∧ ∀ g x, enc g .int x = vI x := ⟨fun _ _ => rfl, fun _ _ => rfl⟩
theorem i_boolean : (∀ x, rg .boolean x → narrow .boolean (vI x) = vI x) ∧ ∀ g x, enc g .boolean x = vI x := by
  refine ⟨fun x h => ?_, fun _ _ => rfl⟩
  rcases h with rfl | rfl <;> decide +kernel
theorem s_iret (o : Ok Γ own cc nL ret d) {ty : FieldType} (hty : ret = some ty) (hv : (∀ x, rg ty x → narrow ty (vI x) = vI x) ∧ ∀ g x, enc g ty x = vI x) {x : Int} {a : A} (hx : rg ty x) (hd : decode cc pc = .ok (.ireturn, 1)) (hK : ∀ s, K a s → mt Γ = (0, x, wld s)) : Sx Γ wld K pc lv [vI x] (pr a) := by
  intro s b s1 h h1
  cases h
  exact e_iret o hty hv hx hd (hK s h1)
theorem s_lret (o : Ok Γ own cc nL ret d) (hty : ret = some .long) {x : Int} {a : A} (hx : R64 x) (hd : decode cc pc = .ok (.lreturn, 1)) (hK : ∀ s, K a s → mt Γ = (0, x, wld s)) : Sx Γ wld K pc lv [vJ x] (pr a) := by
  intro s b s1 h h1
  cases h
  exact e_lret o hty hx hd (hK s h1)
theorem s_vret (o : Ok Γ own cc nL ret d) (hty : ret = none) {a : A} (hd : decode cc pc = .ok (.return_, 1)) (hK : ∀ s, K a s → mt Γ = (0, 0, wld s)) : Sx Γ wld K pc lv [] (pr a) := by
  intro s b s1 h h1
  cases h
  exact e_vret o hty hd (hK s h1)
theorem s_aret (o : Ok Γ own cc nL ret d) {ty : FieldType} (hty : ret = some ty) (hr : (∃ n, ty = .object n) ∨ ∃ t, ty = .array t) {x : Int} {a : A} (hd : decode cc pc = .ok (.areturn, 1)) (hK : ∀ s, K a s → mt Γ = (0, x, wld s)) : Sx Γ wld K pc lv [vA (mg Γ) x] (pr a) := by
  intro s b s1 h h1
  cases h
  exact e_aret o hty hr hd (hK s h1)
/-- a case apart -/
theorem s_case {P : Prop} {x v : Int} (h1 : x = v → Sx Γ wld K pc lv st m1) (h2 : ¬ x = v → Sx Γ wld K pc lv st m2) : Sx Γ wld K pc lv st (if x = v then m1 else m2) := by
  intro s a s1 h hK
  by_cases q : x = v
  · rw [if_pos q] at h; exact h1 q s a s1 h hK
  · rw [if_neg q] at h; exact h2 q s a s1 h hK
theorem s_tabIn (o : Ok Γ own cc nL ret d) {dflt lo hi : Int} {offs : Array Int} {len tgt : Nat} {x off : Int} (hd : decode cc pc = .ok (.tableswitch dflt lo hi offs, len)) (hx : R32 x) (h1 : (decide (lo ≤ x) && decide (x ≤ hi)) = true) (ho : offs[(x - lo).toNat]? = some off) (ht : (pc : Int) + off = (tgt : Int)) (k : Sx Γ wld K tgt lv st m) : Sx Γ wld K pc lv (vI x :: st) m := by
  intro s a s1 h hK H locs ls cells slots hH hl hv hc hs
  simp only [Bool.and_eq_true, decide_eq_true_eq] at h1
  have e := w32_eq hx
  unfold w32 at e
  exact lv_tableIn o.hx o.hb hd (by rw [e]; omega) (by rw [e]; omega) (by rw [e]; exact ho) ht (k s a s1 h hK H locs ls cells slots hH hl hv hc hs)
theorem s_tabOut (o : Ok Γ own cc nL ret d) {dflt lo hi : Int} {offs : Array Int} {len tgt : Nat} {x : Int} (hd : decode cc pc = .ok (.tableswitch dflt lo hi offs, len)) (hx : R32 x) (h1 : x < lo ∨ hi < x) (ht : (pc : Int) + dflt = (tgt : Int)) (k : Sx Γ wld K tgt lv st m) : Sx Γ wld K pc lv (vI x :: st) m := by
  intro s a s1 h hK H locs ls cells slots hH hl hv hc hs
  have e := w32_eq hx
  unfold w32 at e
  exact lv_tableOut o.hx o.hb hd (by rw [e]; exact h1) ht (k s a s1 h hK H locs ls cells slots hH hl hv hc hs)
theorem s_look (o : Ok Γ own cc nL ret d) {dflt : Int} {ps : Array (Int × Int)} {len tgt : Nat} {x off : Int} (hd : decode cc pc = .ok (.lookupswitch dflt ps, len)) (hx : R32 x) (hp : (ps.toList.zip (ps.toList.drop 1)).all (fun (a, next) => a.1 < next.1) = true) (ho : Op.lookupswitch.offset ps.toList dflt x = off) (ht : (pc : Int) + off = (tgt : Int)) (k : Sx Γ wld K tgt lv st m) : Sx Γ wld K pc lv (vI x :: st) m := by
  intro s a s1 h hK H locs ls cells slots hH hl hv hc hs
  have e := w32_eq hx
  unfold w32 at e
  exact lv_lookup o.hx o.hb hd hp (by rw [e]; exact ho) ht (k s a s1 h hK H locs ls cells slots hH hl hv hc hs)
end
