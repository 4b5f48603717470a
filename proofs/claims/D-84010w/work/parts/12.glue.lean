/-! ROWS 9: what the printer uses besides -/
set_option maxRecDepth 100000
def lo {σ S A : Type} (m : Mo σ A) : Mo σ (S ⊕ A) := bnd m (fun a => pr (.inr a))
def nz {σ A : Type} (y : Int) (m : Mo σ A) : Mo σ A := fun s => if y = 0 then none else m s
section
variable {σ S A : Type} {Γ : Gm} {own : String} {cc : ByteArray} {nL : Nat} {ret : Option FieldType} {d : Nat} {pc : Nat} {lv : List (Nat × Value)} {st : List Value} {wld : σ → Wd} {K : A → σ → Prop} {m : Mo σ A}
theorem s_lo {ok : S → Prop} {lvf : S → List (Nat × Value)} {st' : List Value} {pc' : Nat} {lw : List (Nat × Value)} {m : Mo σ A} (k : Sx Γ wld K pc' lw st' m) : Sx Γ wld (KL Γ wld ok K pc lvf st) pc' lw st' (lo m) := s_out k
theorem s_nz {y : Int} (k : y ≠ 0 → Sx Γ wld K pc lv st m) : Sx Γ wld K pc lv st (nz y m) := by
  intro s a s' h hK
  unfold nz at h
  by_cases e : y = 0
  · rw [if_pos e] at h; cases h
  · rw [if_neg e] at h; exact k e s a s' h hK
theorem s_tabE (o : Ok Γ own cc nL ret d) {dflt lo hi : Int} {offs : Array Int} {len tgt : Nat} {x n off : Int} (he : x = n) (hd : decode cc pc = .ok (.tableswitch dflt lo hi offs, len)) (hx : R32 n) (h1 : (decide (lo ≤ n) && decide (n ≤ hi)) = true) (ho : offs[(n - lo).toNat]? = some off) (ht : (pc : Int) + off = (tgt : Int)) (k : Sx Γ wld K tgt lv st m) : Sx Γ wld K pc lv (vI x :: st) m := by
  subst he
  exact s_tabIn o hd hx h1 ho ht k
theorem s_lookE (o : Ok Γ own cc nL ret d) {dflt : Int} {ps : Array (Int × Int)} {len tgt : Nat} {x n off : Int} (he : x = n) (hd : decode cc pc = .ok (.lookupswitch dflt ps, len)) (hx : R32 n) (hp : (ps.toList.zip (ps.toList.drop 1)).all (fun (a, next) => a.1 < next.1) = true) (ho : Op.lookupswitch.offset ps.toList dflt n = off) (ht : (pc : Int) + off = (tgt : Int)) (k : Sx Γ wld K tgt lv st m) : Sx Γ wld K pc lv (vI x :: st) m := by
  subst he
  exact s_look o hd hx hp ho ht k
theorem s_split {x v : Int} (h1 : x = v → Sx Γ wld K pc lv st m) (h2 : ¬ x = v → Sx Γ wld K pc lv st m) : Sx Γ wld K pc lv st m := by
  by_cases e : x = v
  · exact h1 e
  · exact h2 e
end
theorem rCl {x : Int} (h : (decide (0 ≤ x) && decide (x ≤ 65535)) = true) : rg .char x := by
  simp only [Bool.and_eq_true, decide_eq_true_eq] at h
  exact h
section
variable {A : Type} {Γ : Gm} {own : String} {cc : ByteArray} {nL : Nat} {ret : Option FieldType} {d : Nat} {pc : Nat} {lv : List (Nat × Value)} {st : List Value} {h : CH} {i v : Int} {K : A → TS → Prop} {k : Nat}
theorem r_tiald (o : Ok Γ own cc nL ret d) (hT : HT h) {n x : Int} (hf : tar k 0 n x = true) (hi : R32 i) (hd : decode cc pc = .ok (.iaload, 1)) {m : Int → Mo TS A} (kk : ∀ v, R32 v → Sx Γ (fun t => (h, t)) K (pc + 1) lv (vI v :: st) (m v)) : Sx Γ (fun t => (h, t)) K pc lv (vI i :: vA (mg Γ) x :: st) (bnd (rd k n i) m) := s_tiaload o hT hf hi hd kk
theorem r_tlald (o : Ok Γ own cc nL ret d) (hT : HT h) {n x : Int} (hf : tar k 1 n x = true) (hi : R32 i) (hd : decode cc pc = .ok (.laload, 1)) {m : Int → Mo TS A} (kk : ∀ v, R64 v → Sx Γ (fun t => (h, t)) K (pc + 1) lv (vJ v :: st) (m v)) : Sx Γ (fun t => (h, t)) K pc lv (vI i :: vA (mg Γ) x :: st) (bnd (rd k n i) m) := s_tlaload o hT hf hi hd kk
theorem r_tzald (o : Ok Γ own cc nL ret d) (hT : HT h) {n x : Int} (hf : tar k 3 n x = true) (hi : R32 i) (hd : decode cc pc = .ok (.baload, 1)) {m : Int → Mo TS A} (kk : ∀ v, rg .boolean v → Sx Γ (fun t => (h, t)) K (pc + 1) lv (vI v :: st) (m v)) : Sx Γ (fun t => (h, t)) K pc lv (vI i :: vA (mg Γ) x :: st) (bnd (rd k n i) m) := s_tzaload o hT hf hi hd kk
theorem r_tiast (o : Ok Γ own cc nL ret d) (hT : HT h) {n x : Int} (hf : tar k 0 n x = true) (hi : R32 i) (hv0 : R32 v) (hd : decode cc pc = .ok (.iastore, 1)) {m : Mo TS A} (kk : Sx Γ (fun t => (h, t)) K (pc + 1) lv st m) : Sx Γ (fun t => (h, t)) K pc lv (vI v :: vI i :: vA (mg Γ) x :: st) (bnd (wr k n i v) fun _ => m) := s_tiastore o hT hf hi hv0 hd kk
theorem r_tlast (o : Ok Γ own cc nL ret d) (hT : HT h) {n x : Int} (hf : tar k 1 n x = true) (hi : R32 i) (hv0 : R64 v) (hd : decode cc pc = .ok (.lastore, 1)) {m : Mo TS A} (kk : Sx Γ (fun t => (h, t)) K (pc + 1) lv st m) : Sx Γ (fun t => (h, t)) K pc lv (vJ v :: vI i :: vA (mg Γ) x :: st) (bnd (wr k n i v) fun _ => m) := s_tlastore o hT hf hi hv0 hd kk
theorem r_tzast (o : Ok Γ own cc nL ret d) (hT : HT h) {n x : Int} (hf : tar k 3 n x = true) (hi : R32 i) (hv0 : rg .boolean v) (hd : decode cc pc = .ok (.bastore, 1)) {m : Mo TS A} (kk : Sx Γ (fun t => (h, t)) K (pc + 1) lv st m) : Sx Γ (fun t => (h, t)) K pc lv (vI v :: vI i :: vA (mg Γ) x :: st) (bnd (wr k n i v) fun _ => m) := s_tzastore o hT hf hi hv0 hd kk
end
