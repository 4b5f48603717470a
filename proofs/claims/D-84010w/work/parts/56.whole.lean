/-! START 2: from the entry to the end, if the pure law answers 1 -/
set_option maxRecDepth 100000
/-- what is left to show: the pure law answers 1 -/
def PureLaw : Prop := ∀ (scr : Int → Int) (sl : Int), 0 ≤ sl → sl ≤ 192 → (∀ i, R32 (scr i)) → ∃ w, f_law scr sl wB = some (1, w)
def R_law : String := "LazyForgeLaw"
def lw_P (b : Addr) (xs : List Int32) (args : Array Value) (s : State) : Prop := args = #[.ref b] ∧ s.IntsAt b xs ∧ xs.length ≤ 192 ∧ (Jvm.Cond.and given_1 narrow_1).before args s = true
def lw_Q (_ : Array Value) (s : State) (o : Outcome) (t : State) : Prop := o = .returned (some (.int 1)) ∧ Framed s o t [] 600384 7291370
def lw_Z (below : List Frame) (a : Array Value) (s : State) : State → Prop := fun t => ∃ o, t.status = .running ∧ Ended t below o ∧ lw_Q a s o t
/-- what holds at the law's entry: the machine, the code, the tables' words, the script, what the Statement gives of the start -/
def lw_At (p : Program) (s : State) (m : MethodId) (meth : Method) (c : Code) (b L : Nat) (xs : Nat → Int32) : Prop :=
  p.tables.exec = Jvm.exec ∧ c.code = code ∧ meth.sig.returnType = ret ∧ c.maxLocals = 7 ∧ s.vm.findClass R_law = some m.cls ∧ (∀ w ∈ lw_tbl, w.before #[Value.ref b] s = true) ∧ va_X b L xs s s.heap ∧ b < s.heap.size ∧ meth.locks = false ∧ (Jvm.Cond.and given_1 narrow_1).before #[Value.ref b] s = true
/-- the addresses of the old cells that are named -/
def gSf (b tE mi : Nat) (adK adV : Nat → Nat) : Nat → Nat := fun k => if k = 250 then b else if k = 200 then tE else if k = 202 then mi else if 101 ≤ k ∧ k ≤ 143 then adV (k - 100) else if 1 ≤ k ∧ k ≤ 43 then adK k else 0
theorem start_g {s : State} {b : Nat} (l : Launch) (hst : l.stackTraces = false) (hts : ∀ w ∈ lw_tbl, w.before #[Value.ref b] s = true) (hgv : (Jvm.Cond.and given_1 narrow_1).before #[Value.ref b] s = true) (hbl : b < s.heap.size) : ∃ g : gC, gL g = l ∧ gB g = s.heap.size - 1 ∧ gH g = s.heap ∧ gS g 250 = b ∧ TK g s := by
  have hA : ∀ a : Nat, a < s.heap.size → ¬ (fun q => s.heap.size - 1 < q) a := fun a h q => by have : s.heap.size - 1 < a := q; omega
  have hs := hs_of hgv
  obtain ⟨adK, adV, hS⟩ := start_S _ hA hgv
  obtain ⟨cc, iS, hC⟩ := start_C hts
  obtain ⟨cA, hAr⟩ := start_A hts
  obtain ⟨mi, hmi⟩ := va_Mi.of (hs _ st_6)
  obtain ⟨tE, hE1, hE2⟩ := va_Tof (N := 0) (f := fun _ => .null) (by decide) (hs _ st_1) (va_eqt (z := 0) (hs _ st_2)) (fun j hj => by omega) hA
  have aZ := va_Zof (v := vI 1) (hts _ ls_0) (hts _ li_0) (va_eqt (z := 1) (hs _ st_0)) hA
  have aD := va_Zof (v := .ref tE) (hts _ ls_1) (hts _ li_1) hE1 hA
  have a3 := va_Zqof (hts _ ls_2) (hts _ li_2) (hs _ st_3) hA
  have a4 := va_Zqof (hts _ ls_3) (hts _ li_3) (hs _ st_4) hA
  have a5 := va_Zqof (hts _ ls_4) (hts _ li_4) (hs _ st_5) hA
  have lst : ∀ {C n d : String}, Cond.laysStatic C n d ∈ lw_tbl → LSt C n d (fun q => s.heap.size - 1 < q) s s.heap := by
    intro C n d h
    obtain ⟨c, k, i, f, a, cell, h1, h2, h3, h4, h5, h6, h7, h8, h9⟩ := Cond.laysStatic_spec (hts _ h)
    exact ⟨c, k, i, f, a, cell, h1, h2, h3, h4, h5, h6, h7, h8, h9, hA a (Array.getElem?_eq_some_iff.mp h5).1⟩
  refine ⟨(l, s.heap.size - 1, s.heap, (fun c => if 128 ≤ c then cc (c - 100) else cc c, iS), cA, gSf b tE mi adK adV), rfl, rfl, rfl, rfl, start_KW hts, ⟨?_, ?_⟩, ⟨?_, start_N hgv, ?_, ?_⟩, ?_⟩
  · intro c q hq
    have hlt : c < 32 := by have := (List.getElem?_eq_some_iff.mp hq).1; rw [wcl_len] at this; exact this
    show u_Kn s q.1 q.2.1 q.2.2 (if 128 ≤ c then cc (c - 100) else cc c) (iS c)
    rw [if_neg (by omega)]
    exact hC c q hq
  · intro k q hq
    by_cases hk : k < 11
    · rw [wtys_at _ hk] at hq
      cases hq
      exact hAr k hk
    · unfold wtys at hq
      rw [List.getElem?_map, List.getElem?_eq_none (by rw [List.length_range]; omega)] at hq
      cases hq
  · intro q hq
    obtain ⟨-, h2, h3, -⟩ := strs_in q hq
    have := start_R hts hgv (fun k a b => (hS k a b).1) q hq
    have e : gSf b tE mi adK adV q.2.2.2 = adK q.2.2.2 := by unfold gSf; rw [if_neg (by omega), if_neg (by omega), if_neg (by omega), if_neg (by omega), if_pos (by omega)]
    show vk_R _ _ _ (gSf b tE mi adK adV q.2.2.2) s
    rw [e]
    exact this
  · intro k hk
    show gSf b tE mi adK adV k ≤ s.heap.size - 1
    unfold gSf
    by_cases c1 : k = 250
    · rw [if_pos c1]; omega
    · rw [if_neg c1]
      by_cases c2 : k = 200
      · rw [if_pos c2]
        obtain ⟨cell, h1, -⟩ := hE2
        have := (Array.getElem?_eq_some_iff.mp h1).1
        omega
      · rw [if_neg c2, if_neg hk]
        by_cases c3 : 101 ≤ k ∧ k ≤ 143
        · rw [if_pos c3]
          obtain ⟨-, -, -, -, cell, h1, -⟩ := hS (k - 100) (by omega) (by omega)
          have := (Array.getElem?_eq_some_iff.mp h1).1
          omega
        · rw [if_neg c3]
          by_cases c4 : 1 ≤ k ∧ k ≤ 43
          · rw [if_pos c4]
            obtain ⟨-, ⟨cell, h1, -⟩, -⟩ := hS k c4.1 c4.2
            have := (Array.getElem?_eq_some_iff.mp h1).1
            omega
          · rw [if_neg c4]; omega
  · refine ⟨?_, aZ, aD, hE2, a3, a4, a5, hmi, ?_, ?_, hst, lst ls_3, lst ls_4⟩
    · intro k k1 k2
      obtain ⟨-, h2, h3, h4, h5⟩ := hS k k1 k2
      have e1 : gSf b tE mi adK adV k = adK k := by unfold gSf; rw [if_neg (by omega), if_neg (by omega), if_neg (by omega), if_neg (by omega), if_pos (by omega)]
      have e2 : gSf b tE mi adK adV (100 + k) = adV k := by unfold gSf; rw [if_neg (by omega), if_neg (by omega), if_neg (by omega), if_pos (by omega), show 100 + k - 100 = k by omega]
      show va_O _ (gSf b tE mi adK adV k) _ s s.heap ∧ va_OF _ _ _ _ (gSf b tE mi adK adV k) _ s s.heap ∧ va_OF _ _ _ (.ref (gSf b tE mi adK adV (100 + k))) (gSf b tE mi adK adV k) _ s s.heap ∧ va_T _ (gSf b tE mi adK adV (100 + k)) _ _ _ s s.heap
      rw [e1, e2]
      exact ⟨h2, h3, h4, h5⟩
    · intro j j1 j2
      show (if 128 ≤ 100 + j then cc (100 + j - 100) else cc (100 + j)) = (if 128 ≤ j then cc (j - 100) else cc j)
      rw [if_pos (by omega), if_neg (by omega), show 100 + j - 100 = j by omega]
    · show s.heap.size = s.heap.size - 1 + 1
      omega
  · exact start_AP hts hC
theorem room_eq : room_1 = rmd 2048 0 0 := rfl
/-- from the entry, for every script of at most 192 ints, the law comes to its end with true -/
theorem whole_start (P2 : PureLaw) {p : Program} {e : Env} {s : State} {m : MethodId} {below : List Frame} {meth : Method} {c : Code} (l : Launch) (hst : l.stackTraces = false) {b L : Nat} {xs : Nat → Int32} (hL : L ≤ 192) (C0 : lw_At p s m meth c b L xs) : W p l e room_1 s m #[Value.ref b] below meth c s.heap [] 0 0 (lw_Z below #[Value.ref b] s) (entryFrame m ([Value.ref b] : List Value).toArray 7) := by
  obtain ⟨hx, hcode, hret, hml, hown, hts, hX, hbl, hlk, hgv⟩ := C0
  obtain ⟨g, rfl, gb, gh, g250, hT⟩ := start_g l hst hts hgv hbl
  obtain ⟨w', hw'⟩ := P2 (fun i => (xs i.toNat).toInt) (L : Int) (by omega) (by omega) (fun i => R32_to _)
  obtain ⟨h', hf⟩ := f_all_of hw'
  let Γ : Gm := (g, (p, e, rmd 2048 0 0, s, m, #[Value.ref b], below, meth, c), some .boolean, 0, 0, 7, (0, 1, w'))
  have o : Ok Γ "LazyForgeLaw" cL_law 7 (some .boolean) (1434 + 614) := ⟨hx, hcode, hml, rfl, hret, rfl, hlk, hown, hT, rfl⟩
  have hS : SCR Γ (fun i => (xs i.toNat).toInt) (L : Int) := by
    refine ⟨⟨by omega, by omega⟩, fun i => R32_to _, ?_, ?_⟩
    · show va_X (gS g 250) ((L : Int)).toNat (fun j => Int32.ofInt ((xs ((j : Int)).toNat).toInt)) s (gH g)
      rw [g250, gh, Int.toNat_natCast, show (fun j : Nat => Int32.ofInt ((xs ((j : Int)).toNat).toInt)) = xs from funext fun j => by rw [Int.toNat_natCast, Int32.ofInt_toInt]]
      exact hX
    · show gS g 250 ≤ gB g
      rw [g250, gb]; omega
  have hE := sf_all (ts := fun _ _ => 0) hS o h0 (1, w') h' hf rfl
  have hH : HR g (h0, fun _ _ => 0) s.heap := by
    refine ⟨?_, fun q _ => by rw [gh], ⟨by show 0 ≤ NM; omega, fun x x0 x1 => ?_⟩, by show 0 ≤ ZM; omega, fun x x0 x1 => ?_⟩
    · show s.heap.size = gB g + 1 + 0
      rw [gb]; omega
    · exact absurd x1 (by show ¬ x ≤ ((0 : Nat) : Int); omega)
    · exact absurd x1 (by show ¬ x ≤ ((0 : Nat) : Int); omega)
  have hl := lv_entry ([Value.ref b] : List Value) (n := 7) (by rw [lg_len]; simp [Value.category])
  have hv : vA g (-250) = .ref b := by
    rw [vA_neg (by omega)]
    show Value.ref (gS g 250) = _
    rw [g250]
  have hl' : lv_args 0 [Value.ref b] = [(0, vA (mg Γ) (-250))] := by
    show _ = [(0, vA g (-250))]
    rw [hv]
    rfl
  rw [hl'] at hl
  have hW := hE s.heap [] _ 0 0 hH (fun q hq => by cases hq) hl rfl rfl
  intro T hT0 X
  obtain ⟨t, a1, b1⟩ := hW T hT0 X
  refine ⟨t, ?_, ?_⟩
  · rw [lg_entry_eq]
    exact a1
  · obtain ⟨h1, h2, h3, h4, h5, h6, L', h7, h8, h9⟩ := b1
    refine ⟨.returned (some (.int 1)), h1, h2, rfl, ⟨_, rfl⟩, h7, h8.weaken (fun x hx hlt => ?_) ?_ ?_⟩
    · have h10 : s.heap.size - 1 < x.base := by
        rw [← gb]
        exact h9 x hx
      have h11 : s.heap.size ≤ x.base := by omega
      exact absurd hlt (Nat.not_lt.mpr h11)
    · have := h4.2.2.1.1
      show hn w'.1 - 0 ≤ 600384
      have e : hn w'.1 ≤ NM := this
      unfold NM at e
      omega
    · have := h4.2.2.2.1
      show hz w'.1 - 0 ≤ 7291370
      have e : hz w'.1 ≤ ZM := this
      unfold ZM at e
      omega
set_option maxHeartbeats 4000000 in
theorem lw_walk (P2 : PureLaw) (l : Launch) (hst : l.stackTraces = false) (b : Addr) (xs : List Int32) : MetFree l x (headSpec (Jvm.Cond.code x code maxLocals ret :: tables_1) room_1) (lw_P b xs) (fun _ _ _ _ _ => True) lw_Q := by
  refine MetFree.of_bodyS (code := code) (maxLocals := maxLocals) (ret := ret) (by decide) ?_ ?_
  · intro args s m h hn
    obtain ⟨meth, c, h1, h2, h3, h4, h5, h6, -, -⟩ := Cond.code_spec hn (atoms_spec (ws := Jvm.Cond.code x code maxLocals ret :: tables_1) h _ List.mem_cons_self)
    exact ⟨meth, c, h1, h2, h3, h4, h5, h6⟩
  · intro p e s m args below meth c s₁ B hml0 hP _
    obtain ⟨rfl, hx, hbd, hgv⟩ := hP
    obtain ⟨scr, harrAt, hlist, hof, hsmall⟩ := hx
    obtain ⟨hcb, hkn, -, -⟩ := State.arrayAt?_spec harrAt
    have hown : s.vm.findClass R_law = some m.cls := findClass_of_methodNamed B.named
    have hts0 : ∀ c ∈ (Jvm.Cond.code x code maxLocals ret :: tables_1), c.before #[Value.ref b] s = true := atoms_spec (ws := Jvm.Cond.code x code maxLocals ret :: tables_1) B.pre
    have hts : ∀ w ∈ lw_tbl, w.before #[Value.ref b] s = true := k2_hts_sels lw_privs (fun w hw => hts0 w (List.mem_cons_of_mem _ hw)) lw_privs_ok
    have hml : c.maxLocals = 7 := B.maxLocals_eq (hts0 _ List.mem_cons_self)
    have X₀ : Stand p l e room_1 s m #[Value.ref b] below meth c s₁ [] 0 0 := Stand.of_body B
    have hh0 : s₁.heap = s.heap := by rw [B.state]; rfl
    have hsz : scr.slots.size = xs.length := by rw [← Array.length_toList, hlist, List.length_map]
    have hval : ∀ j : Nat, j < xs.length → scr.slots[j]? = some (.int (xs.getD j 0)) := fun j hj => by
      rw [← Array.getElem?_toList, hlist]
      simp [hj]
    have hbl : b < s.heap.size := (Array.getElem?_eq_some_iff.mp hcb).1
    have hX : va_X b xs.length (fun j => xs.getD j 0) s s.heap := ⟨scr, hcb, hof, hkn, hsz, hval⟩
    have K : W p l e room_1 s m #[Value.ref b] below meth c s₁.heap [] 0 0 (lw_Z below #[Value.ref b] s) (entryFrame m ([Value.ref b] : List Value).toArray 7) := by
      rw [hh0]
      exact whole_start P2 l hst hbd ⟨B.exec, B.bytes, B.returns, hml, hown, hts, hX, hbl, B.notSynchronized, hgv⟩
    obtain ⟨t, a1, o, b1, b2, b3⟩ := K s₁ rfl X₀
    exact ⟨t, o, a1, b1, b2, b3⟩
theorem lw_pre_spec {args : Array Value} {s : State} (h : (Jvm.Cond.and given_1 narrow_1).before args s = true) (hr : rest_1_c.before args s = true) : ∃ (b : Addr) (xs : List Int32), lw_P b xs args s := by
  have hs := flat_of_before _ h
  have hq := flat_of_before _ hr
  have hc : (Cond.count 1).before args s = true := hs _ (by decide +kernel)
  have harr : (Cond.arrayOf (.arg 0) .int).before args s = true := hs _ (by decide +kernel)
  have hle : (Cond.le (.length (.arg 0)) (.int 192)).before args s = true := hs _ (by decide +kernel)
  have hlen : (Cond.isInt (.length (.arg 0))).before args s = true := hq _ (by decide +kernel)
  have hall : (Cond.all (.arg 0) (.isInt (.elem (.arg 0) (.index 0)))).before args s = true := hq _ (by decide +kernel)
  obtain ⟨b, xs, hb, hx⟩ := State.ints_of_pre rfl harr hlen hall
  have hsm : xs.length < 2 ^ 31 := hx.choose_spec.2.2.2
  have hev : (Term.length (.arg 0)).eval args s none [] s = some (.int xs.length.toInt32) := hx.length_eval hb
  have hv := Cond.le_ints hev (show (Term.int 192).eval args s none [] s = some (.int 192) from rfl)
  have hd : xs.length.toInt32 ≤ 192 := by
    simpa [Cond.before, Cond.holds, hv] using hle
  have hN : xs.length ≤ 192 := (Int32.ofNat_le_ofNat hsm (by decide)).mp (show Int32.ofNat xs.length ≤ Int32.ofNat 192 from hd)
  exact ⟨b, xs, Cond.one_arg hc (show args[0]? = some (.ref b) from hb), hx, hN, h⟩
theorem lw_comes (P2 : PureLaw) (l : Launch) (hst : l.stackTraces = false) : Comes l x (Jvm.Cond.code x code maxLocals ret :: tables_1) room_1 (fun tb e args s => Calls_1 tb e args s ∧ rest_1 tb e args s ∧ Pre_1 tb e args s)
    (fun _ _ args s o t => lw_Q args s o t) := by
  intro p e ha hc hk s m args below hf hfit hheap happ hpre
  obtain ⟨b, xs, hP⟩ := lw_pre_spec hpre.2.2 hpre.2.1
  obtain ⟨k, o, h1, h2, h3, hQ⟩ := lw_walk P2 l hst b xs p e ha hc hk s m args below hf ((Spec.applies_iff_loose hf).mp happ).1 hP trivial
  exact ⟨k, o, h1, h2, h3, hQ⟩
theorem lw_frame {s t : State} {o : Outcome} {args : Array Value} (h : Framed s o t [] 600384 7291370) :
    Framed s o t (fieldLocs frame_1_writes args s ++ arrayLocs frame_1_arrays args s ++ staticLocs frame_1_statics s) 600384 7291370 := h
theorem lw_limb (P2 : PureLaw) (L : Cond) (hL : ∀ (args : Array Value) (s t : State), L.after args s (.returned (some (.int 1))) t = true) :
    ArmFor flags0 classFile x code maxLocals ret World_1 tables_1 room_1 Calls_1 rest_1 Pre_1
      (fun tb e a s o t => postC L tb e a s o t ∧ Framed s o t (fieldLocs frame_1_writes a s ++ arrayLocs frame_1_arrays a s ++ staticLocs frame_1_statics s) 600384 7291370) := by
  intro l hfl _ _ p e ha hc hk s m args below hf hfit hheap happ hpre
  have hst : l.stackTraces = false := by unfold Launch.stackTraces; rw [hfl]; decide
  obtain ⟨k, o, h1, h2, h3, rfl, hF⟩ := lw_comes P2 l hst p e ha hc hk s m args below hf hfit hheap happ hpre
  exact ⟨k, _, h1, h2, h3, hL args s _, lw_frame hF⟩
theorem claim_of (P2 : PureLaw) : Claimed_1_1 ∧ Claimed_1_2 := ⟨lw_limb P2 limb_1_1 (fun args s t => by simp [limb_1_1, Cond.after, Cond.holds, Cond.value]), lw_limb P2 limb_1_2 (fun args s t => Cond.after_iff.mpr (by
  first | (rw [show limb_1_2 = Cond.eq .result (.int 1) from rfl, Cond.eq_ints (x := 1) (y := 1) rfl rfl]; simp; done) | (simp [limb_1_2, Cond.value, Term.eval]; done)))⟩
