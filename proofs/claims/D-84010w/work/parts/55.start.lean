/-! START 1: what the start's words say: strings, statics, classes, arrays (the lists of paths are printed by gen55.py) -/
set_option maxRecDepth 100000
/-- the premise at a path: so many turns, their bits -/
def leafB : Nat → Nat → Cond → Option Cond
  | n + 1, b, .and x y => leafB n b (if b.testBit n then y else x)
  | 0, _, .and _ _ => none
  | 0, _, c => some c
  | _ + 1, _, _ => none
theorem leafB_mem : ∀ (n b : Nat) (c d : Cond), leafB n b c = some d → d ∈ flatC c := by
  intro n
  induction n with
  | zero =>
    intro b c d h
    cases c <;> first | (cases h; done) | (cases h; exact List.mem_singleton.mpr rfl)
  | succ n ih =>
    intro b c d h
    cases c <;> first | (cases h; done) | skip
    rename_i x y
    have h' : leafB n b (if b.testBit n then y else x) = some d := h
    show d ∈ flatC x ++ flatC y
    split at h'
    · exact List.mem_append_right _ (ih b y d h')
    · exact List.mem_append_left _ (ih b x d h')
def repS (k : Nat) : String × Nat := match strs.find? (fun q => q.2.2.2 == k) with
  | some q => (q.1, q.2.1)
  | none => ("", 0)
def tmS (k : Nat) : Term := .string (repS k).1 (repS k).2
def tmV (k : Nat) : Term := .field (tmS k) "java/lang/String" "value" "[B"
def needS (k : Nat) : List Cond := [.exactly (tmS k) "java/lang/String", .eq (.field (tmS k) "java/lang/String" "coder" "B") (.int 0), .arrayOf (tmV k) .byte, .eq (.length (tmV k)) (.int (Int32.ofNat (sby k).length))] ++ (List.range (sby k).length).map fun j => .eq (.elem (tmV k) (.int (Int32.ofNat j))) (.int (Int32.ofInt ((sby k).getD j 0)))
def pS : List (List (Nat × Nat)) := [[], [(9, 214), (10, 430), (10, 431), (9, 216), (9, 217), (9, 218), (10, 438), (10, 439), (9, 220)], [(10, 442), (10, 443), (9, 222), (10, 446), (10, 447), (9, 224), (9, 225), (9, 226)], [(10, 454), (10, 455), (9, 228), (9, 229), (9, 230), (10, 462), (10, 463), (9, 232), (9, 233), (9, 234), (10, 470), (10, 471), (9, 236), (10, 474), (10, 475), (9, 238), (10, 478), (10, 479), (9, 240), (9, 241), (9, 242), (10, 486), (10, 487), (9, 244), (9, 245), (9, 246), (10, 494), (10, 495), (9, 248)], [(9, 249), (9, 250), (10, 502), (10, 503), (9, 252), (10, 506), (10, 507), (9, 254), (10, 510), (10, 511), (9, 256), (9, 257), (9, 258), (10, 518), (10, 519), (9, 260), (9, 261), (9, 262), (10, 526), (10, 527), (9, 264)], [(9, 265), (9, 266), (10, 534), (10, 535), (9, 268), (9, 269), (9, 270), (10, 542)], [(10, 543), (9, 272), (9, 273), (9, 274), (10, 550)], [(10, 551), (9, 276), (9, 277), (9, 278), (10, 558)], [(10, 559), (9, 280), (9, 281), (9, 282), (10, 566)], [(10, 567), (9, 284), (10, 570), (10, 571), (9, 286), (10, 574), (10, 575)], [(9, 288), (9, 289), (9, 290), (10, 582), (10, 583)], [(9, 292), (9, 293), (9, 294), (10, 590), (10, 591), (9, 296)], [(9, 297), (9, 298), (10, 598), (10, 599), (9, 300), (10, 602), (10, 603), (9, 302)], [(10, 606), (10, 607), (9, 304), (9, 305), (9, 306), (10, 614)], [(10, 615), (9, 308), (9, 309), (9, 310), (10, 622)], [(10, 623), (9, 312), (9, 313), (9, 314), (10, 630)], [(10, 631), (9, 316), (10, 634), (10, 635), (9, 318), (10, 638)], [(10, 639), (9, 320), (9, 321), (9, 322), (10, 646)], [(10, 647), (9, 324), (9, 325), (9, 326), (10, 654)], [(10, 655), (9, 328), (9, 329), (9, 330), (10, 662)], [(10, 663), (9, 332), (9, 333), (9, 334), (10, 670)], [(10, 671), (9, 336), (9, 337), (9, 338), (10, 678), (10, 679), (9, 340), (9, 341)], [(9, 342), (10, 686), (10, 687), (9, 344), (9, 345)], [(9, 346), (10, 694), (10, 695), (9, 348), (10, 698)], [(10, 699), (9, 350), (10, 702), (10, 703), (9, 352)], [(9, 353), (9, 354), (10, 710), (10, 711), (9, 356)], [(9, 357), (9, 358), (10, 718), (10, 719), (9, 360)], [(9, 361), (9, 362), (10, 726), (10, 727), (9, 364)], [(10, 730), (10, 731), (9, 366), (10, 734), (10, 735), (9, 368)], [(9, 369), (9, 370), (10, 742), (10, 743), (9, 372)], [(9, 373), (9, 374), (10, 750), (10, 751), (9, 376), (9, 377)], [(9, 378), (10, 758), (10, 759), (9, 380), (10, 762), (10, 763), (9, 382), (10, 766)], [(10, 767), (9, 384), (9, 385), (9, 386), (10, 774), (10, 775), (9, 388), (9, 389), (9, 390)], [(10, 782), (10, 783), (9, 392), (9, 393), (9, 394), (10, 790), (10, 791)], [(9, 396), (9, 397), (9, 398), (10, 798), (10, 799), (9, 400)], [(9, 408), (9, 409), (9, 410), (10, 822), (10, 823), (9, 412), (10, 826)], [(10, 827), (9, 414), (10, 830), (10, 831), (9, 416), (9, 417), (9, 418), (10, 838), (10, 839), (9, 420)], [(9, 428), (10, 858), (10, 859), (9, 430), (10, 862), (10, 863), (9, 432), (9, 433), (9, 434)], [(10, 870), (10, 871), (9, 436), (9, 437), (9, 438), (10, 878)], [(9, 484), (9, 485), (9, 486), (10, 974), (10, 975), (9, 488), (9, 489), (9, 490)], [(10, 982), (10, 983), (9, 492), (10, 986), (10, 987), (9, 494), (10, 990), (10, 991), (9, 496)], [(9, 497), (9, 498), (10, 998), (10, 999), (9, 500), (9, 501)], [(9, 502), (10, 1006), (10, 1007), (9, 504), (9, 505), (9, 506), (10, 1014), (10, 1015)], [(9, 508), (10, 1018), (10, 1019), (9, 510), (10, 1022), (10, 1023)]]
theorem needS_at : ∀ k : Nat, k < 44 → (if k = 0 then [] else (needS k).map some) = (pS.getD k []).map (fun q => leafB q.1 q.2 narrow_1) := by decide +kernel
theorem of_paths {l : List Cond} {p : List (Nat × Nat)} (h : l.map some = p.map (fun q => leafB q.1 q.2 narrow_1)) : ∀ c ∈ l, c ∈ flatC narrow_1 := by
  intro c hc
  have h1 : some c ∈ l.map some := List.mem_map.mpr ⟨c, hc, rfl⟩
  rw [h] at h1
  obtain ⟨q, -, hq⟩ := List.mem_map.mp h1
  exact leafB_mem _ _ _ _ hq
theorem needS_in (k : Nat) (h1 : k < 44) (h2 : 1 ≤ k) : ∀ c ∈ needS k, c ∈ flatC narrow_1 := by
  have := needS_at k h1
  rw [if_neg (by omega)] at this
  exact of_paths this
def pD : List (Nat × Nat × Nat) := [(0, 0, 0), (0, 0, 0), (0, 0, 0), (0, 0, 0), (0, 0, 0), (0, 0, 0), (0, 0, 0), (0, 0, 0), (0, 0, 0), (0, 0, 0), (0, 0, 0), (0, 0, 0), (0, 0, 0), (0, 0, 0), (0, 0, 0), (0, 0, 0), (0, 0, 0), (0, 0, 0), (0, 0, 0), (0, 0, 0), (0, 0, 0), (0, 0, 0), (0, 0, 0), (0, 0, 0), (0, 0, 0), (0, 0, 0), (0, 0, 0), (0, 0, 0), (0, 0, 0), (0, 0, 0), (0, 0, 0), (0, 0, 0), (0, 0, 0), (0, 0, 0), (2, 10, 815), (0, 0, 0), (0, 0, 0), (2, 10, 855), (0, 0, 0), (0, 0, 0), (2, 10, 890), (2, 9, 449), (2, 9, 454), (2, 10, 918), (2, 10, 927), (2, 9, 468), (2, 9, 474), (2, 9, 478), (2, 10, 967), (0, 0, 0), (0, 0, 0), (0, 0, 0), (0, 0, 0), (0, 0, 0)]
def dupC (q : String × Nat × String × Nat) (p : Nat × Nat × Nat) : Bool := decide (1 ≤ q.2.2.2) && decide (q.2.2.2 < 44) && match p.1 with
  | 0 => decide (Term.string q.1 q.2.1 = tmS q.2.2.2)
  | 1 => decide (leafB p.2.1 p.2.2 narrow_1 = some (Cond.eq (.string q.1 q.2.1) (tmS q.2.2.2)))
  | _ => decide (leafB p.2.1 p.2.2 narrow_1 = some (Cond.eq (tmS q.2.2.2) (.string q.1 q.2.1)))
theorem dup_ok : (strs.zip pD).all (fun x => dupC x.1 x.2) = true := by decide +kernel
theorem strs_tbl : ∀ q ∈ strs, Cond.stringRef q.1 q.2.1 q.2.2.1 ∈ lw_tbl := by
  intro q hq
  simp only [strs, List.mem_cons, List.not_mem_nil, or_false] at hq
  rcases hq with rfl | rfl | rfl | rfl | rfl | rfl | rfl | rfl | rfl | rfl | rfl | rfl | rfl | rfl | rfl | rfl | rfl | rfl | rfl | rfl | rfl | rfl | rfl | rfl | rfl | rfl | rfl | rfl | rfl | rfl | rfl | rfl | rfl | rfl | rfl | rfl | rfl | rfl | rfl | rfl | rfl | rfl | rfl | rfl | rfl | rfl | rfl | rfl | rfl | rfl | rfl | rfl | rfl | rfl
  · exact q596
  · exact q652
  · exact q760
  · exact q773
  · exact q837
  · exact q858
  · exact q863
  · exact q881
  · exact q886
  · exact q945
  · exact q946
  · exact q951
  · exact q956
  · exact q957
  · exact q958
  · exact q963
  · exact q964
  · exact q965
  · exact q970
  · exact q995
  · exact q996
  · exact q1005
  · exact q1006
  · exact q1007
  · exact q1008
  · exact q1013
  · exact q1014
  · exact q1015
  · exact q1016
  · exact q1017
  · exact q1264
  · exact q1932
  · exact q1943
  · exact q1957
  · exact q1965
  · exact q1971
  · exact q1985
  · exact q1990
  · exact q1994
  · exact q1996
  · exact q1998
  · exact q2027
  · exact q2028
  · exact q2029
  · exact q2030
  · exact q2031
  · exact q2032
  · exact q2033
  · exact q2034
  · exact q2036
  · exact q2038
  · exact q2039
  · exact q2044
  · exact q2045
theorem strs_in : ∀ q ∈ strs, Cond.stringRef q.1 q.2.1 q.2.2.1 ∈ lw_tbl ∧ 1 ≤ q.2.2.2 ∧ q.2.2.2 < 44 ∧ (Term.string q.1 q.2.1 = tmS q.2.2.2 ∨ Cond.eq (.string q.1 q.2.1) (tmS q.2.2.2) ∈ flatC narrow_1 ∨ Cond.eq (tmS q.2.2.2) (.string q.1 q.2.1) ∈ flatC narrow_1) := by
  intro q hq
  obtain ⟨i, hi, rfl⟩ := List.mem_iff_getElem.mp hq
  have hl : i < pD.length := by
    have : pD.length = strs.length := rfl
    omega
  have hz : (strs[i], pD[i]) ∈ strs.zip pD := by
    refine List.mem_of_getElem? (i := i) ?_
    rw [List.getElem?_zip_eq_some]
    exact ⟨List.getElem?_eq_getElem hi, List.getElem?_eq_getElem hl⟩
  have h0 := List.all_eq_true.mp dup_ok _ hz
  unfold dupC at h0
  rw [Bool.and_eq_true, Bool.and_eq_true] at h0
  obtain ⟨⟨a1, a2⟩, a3⟩ := h0
  refine ⟨strs_tbl _ (List.getElem_mem _), of_decide_eq_true a1, of_decide_eq_true a2, ?_⟩
  dsimp only at a3
  split at a3
  · exact Or.inl (of_decide_eq_true a3)
  · exact Or.inr (Or.inl (leafB_mem _ _ _ _ (of_decide_eq_true a3)))
  · exact Or.inr (Or.inr (leafB_mem _ _ _ _ (of_decide_eq_true a3)))
def pN : List (Nat × Nat) := [(9, 18), (10, 247), (10, 218), (10, 262), (10, 219), (10, 319), (9, 160), (9, 161), (9, 162), (10, 326), (10, 327), (9, 164), (9, 165), (10, 187), (9, 94), (10, 190), (10, 191), (9, 96), (9, 97), (9, 98), (10, 198), (9, 182), (10, 366), (10, 367), (9, 184), (9, 185), (9, 186), (10, 374), (10, 375), (9, 204), (9, 205), (9, 206), (10, 414), (10, 415), (9, 208), (9, 209), (9, 210)]
theorem ncs_at : (ncs.map fun q => Cond.not (.castable q.1 q.2)).map some = pN.map (fun q => leafB q.1 q.2 narrow_1) := by decide +kernel
theorem ncs_in : ∀ q ∈ ncs, Cond.not (.castable q.1 q.2) ∈ flatC narrow_1 := fun q hq => of_paths ncs_at _ (List.mem_map.mpr ⟨q, hq, rfl⟩)
theorem st_0 : (Jvm.Cond.eq (Jvm.Term.static "java/lang/String" "COMPACT_STRINGS" "Z") (Jvm.Term.int (1 : Int32))) ∈ flatC narrow_1 := leafB_mem 10 7 _ _ rfl
theorem st_1 : (Jvm.Cond.arrayOf (Jvm.Term.static "java/util/ArrayList" "DEFAULTCAPACITY_EMPTY_ELEMENTDATA" "[Ljava/lang/Object;") (Jvm.ClassFile.FieldType.object "java/lang/Object")) ∈ flatC narrow_1 := leafB_mem 9 8 _ _ rfl
theorem st_2 : (Jvm.Cond.eq (Jvm.Term.length (Jvm.Term.static "java/util/ArrayList" "DEFAULTCAPACITY_EMPTY_ELEMENTDATA" "[Ljava/lang/Object;")) (Jvm.Term.int (0 : Int32))) ∈ flatC narrow_1 := leafB_mem 9 10 _ _ rfl
theorem st_3 : (Jvm.Cond.isRef (Jvm.Term.static "jdk/internal/util/Preconditions" "SIOOBE_FORMATTER" "Ljava/util/function/BiFunction;")) ∈ flatC narrow_1 := leafB_mem 9 4 _ _ rfl
theorem st_4 : (Jvm.Cond.isRef (Jvm.Term.static "java/lang/Throwable" "UNASSIGNED_STACK" "[Ljava/lang/StackTraceElement;")) ∈ flatC narrow_1 := leafB_mem 9 2 _ _ rfl
theorem st_5 : (Jvm.Cond.isRef (Jvm.Term.static "java/lang/Throwable" "SUPPRESSED_SENTINEL" "Ljava/util/List;")) ∈ flatC narrow_1 := leafB_mem 10 6 _ _ rfl
theorem st_6 : (Jvm.Cond.isRef (Jvm.Term.mirror "[Ljava/lang/Object;")) ∈ flatC narrow_1 := leafB_mem 9 213 _ _ rfl
theorem ls_0 : (Jvm.Cond.laysStatic "java/lang/String" "COMPACT_STRINGS" "Z") ∈ lw_tbl := q609
theorem li_0 : (Jvm.Cond.initialized "java/lang/String") ∈ lw_tbl := (lw_all_tbl q181)
theorem ls_1 : (Jvm.Cond.laysStatic "java/util/ArrayList" "DEFAULTCAPACITY_EMPTY_ELEMENTDATA" "[Ljava/lang/Object;") ∈ lw_tbl := q1043
theorem li_1 : (Jvm.Cond.initialized "java/util/ArrayList") ∈ lw_tbl := (lw_all_tbl q192)
theorem ls_2 : (Jvm.Cond.laysStatic "jdk/internal/util/Preconditions" "SIOOBE_FORMATTER" "Ljava/util/function/BiFunction;") ∈ lw_tbl := q625
theorem li_2 : (Jvm.Cond.initialized "jdk/internal/util/Preconditions") ∈ lw_tbl := (lw_all_tbl q183)
theorem ls_3 : (Jvm.Cond.laysStatic "java/lang/Throwable" "UNASSIGNED_STACK" "[Ljava/lang/StackTraceElement;") ∈ lw_tbl := q518
theorem li_3 : (Jvm.Cond.initialized "java/lang/Throwable") ∈ lw_tbl := (lw_all_tbl q174)
theorem ls_4 : (Jvm.Cond.laysStatic "java/lang/Throwable" "SUPPRESSED_SENTINEL" "Ljava/util/List;") ∈ lw_tbl := q520
theorem li_4 : (Jvm.Cond.initialized "java/lang/Throwable") ∈ lw_tbl := (lw_all_tbl q174)
def arrW (k : Nat) : Cond := if k < 5 then .arrayClass (aty k) else .arrayOver (aty k)
theorem arrW_in : ∀ k : Nat, k < 11 → arrW k ∈ lw_tbl := by
  intro k hk
  match k, hk with
  | 0, _ => exact (lw_all_tbl q439)
  | 1, _ => exact (lw_all_tbl q438)
  | 2, _ => exact (lw_all_tbl q236)
  | 3, _ => exact (lw_all_tbl q1099)
  | 4, _ => exact (lw_all_tbl q734)
  | 5, _ => exact q327
  | 6, _ => exact q595
  | 7, _ => exact q1101
  | 8, _ => exact q593
  | 9, _ => exact q1485
  | 10, _ => exact q1258
  | k + 11, hk => omega
theorem inst_in : ∀ (c : Nat) (q : vw_C), wcl[c]? = some q → ∃ n, Cond.instantiable q.1 n ∈ lw_tbl := by
  intro c q h
  have of : ∀ (c : Nat) (C : String), mk_ok c C → Cond.instantiable C (wN c) ∈ lw_tbl := fun c C h => by obtain ⟨r, _, _, h3, _⟩ := h; exact h3
  match c, h with
  | 0, h => cases h; exact ⟨_, of _ _ mk_11⟩
  | 1, h => cases h; exact ⟨_, of _ _ mk_1⟩
  | 2, h => cases h; exact ⟨_, of _ _ mk_2⟩
  | 3, h => cases h; exact ⟨_, of _ _ mk_3⟩
  | 4, h => cases h; exact ⟨_, of _ _ mk_6⟩
  | 5, h => cases h; exact ⟨_, of _ _ mk_6⟩
  | 6, h => cases h; exact ⟨_, of _ _ mk_6⟩
  | 7, h => cases h; exact ⟨_, of _ _ mk_7⟩
  | 8, h => cases h; exact ⟨_, of _ _ mk_8⟩
  | 9, h => cases h; exact ⟨_, of _ _ mk_9⟩
  | 10, h => cases h; exact ⟨_, of _ _ mk_10⟩
  | 11, h => cases h; exact ⟨_, of _ _ mk_11⟩
  | 12, h => cases h; exact ⟨_, of _ _ mk_12⟩
  | 13, h => cases h; exact ⟨_, of _ _ mk_13⟩
  | 14, h => cases h; exact ⟨_, of _ _ mk_14⟩
  | 15, h => cases h; exact ⟨_, of _ _ mk_15⟩
  | 16, h => cases h; exact ⟨_, of _ _ mk_16⟩
  | 17, h => cases h; exact ⟨_, of _ _ mk_17⟩
  | 18, h => cases h; exact ⟨_, of _ _ mk_18⟩
  | 19, h => cases h; exact ⟨_, of _ _ mk_19⟩
  | 20, h => cases h; exact ⟨_, of _ _ mk_20⟩
  | 21, h => cases h; exact ⟨_, of _ _ mk_21⟩
  | 22, h => cases h; exact ⟨_, of _ _ mk_22⟩
  | 23, h => cases h; exact ⟨_, of _ _ mk_23⟩
  | 24, h => cases h; exact ⟨_, of _ _ mk_24⟩
  | 25, h => cases h; exact ⟨_, of _ _ mk_25⟩
  | 26, h => cases h; exact ⟨_, of _ _ mk_26⟩
  | 27, h => cases h; exact ⟨_, of _ _ mk_27⟩
  | 28, h => cases h; exact ⟨_, of _ _ mk_28⟩
  | 29, h => cases h; exact ⟨_, of _ _ mk_29⟩
  | 30, h => cases h; exact ⟨_, of _ _ mk_30⟩
  | 31, h => cases h; exact ⟨_, of _ _ mk_31⟩
  | c + 32, h => simp [wcl] at h
theorem nd_J13 : ((List.range 3).map (fun k => ((TJ13 k).1, (TJ13 k).2.1))).Nodup := by decide +kernel
theorem nd_J17 : ((List.range 6).map (fun k => ((TJ17 k).1, (TJ17 k).2.1))).Nodup := by decide +kernel
theorem nd_J18 : ((List.range 6).map (fun k => ((TJ18 k).1, (TJ18 k).2.1))).Nodup := by decide +kernel
theorem nd_J3 : ((List.range 6).map (fun k => ((TJ3 k).1, (TJ3 k).2.1))).Nodup := by decide +kernel
theorem nd_J4 : ((List.range 6).map (fun k => ((TJ4 k).1, (TJ4 k).2.1))).Nodup := by decide +kernel
theorem nd_X1 : ((List.range 11).map (fun k => ((TX1 k).1, (TX1 k).2.1))).Nodup := by decide +kernel
theorem nd_X10 : ((List.range 5).map (fun k => ((TX10 k).1, (TX10 k).2.1))).Nodup := by decide +kernel
theorem nd_X11 : ((List.range 136).map (fun k => ((TX11 k).1, (TX11 k).2.1))).Nodup := by decide +kernel
theorem nd_X12 : ((List.range 23).map (fun k => ((TX12 k).1, (TX12 k).2.1))).Nodup := by decide +kernel
theorem nd_X13 : ((List.range 10).map (fun k => ((TX13 k).1, (TX13 k).2.1))).Nodup := by decide +kernel
theorem nd_X14 : ((List.range 8).map (fun k => ((TX14 k).1, (TX14 k).2.1))).Nodup := by decide +kernel
theorem nd_X15 : ((List.range 8).map (fun k => ((TX15 k).1, (TX15 k).2.1))).Nodup := by decide +kernel
theorem nd_X16 : ((List.range 11).map (fun k => ((TX16 k).1, (TX16 k).2.1))).Nodup := by decide +kernel
theorem nd_X17 : ((List.range 2).map (fun k => ((TX17 k).1, (TX17 k).2.1))).Nodup := by decide +kernel
theorem nd_X18 : ((List.range 9).map (fun k => ((TX18 k).1, (TX18 k).2.1))).Nodup := by decide +kernel
theorem nd_X19 : ((List.range 6).map (fun k => ((TX19 k).1, (TX19 k).2.1))).Nodup := by decide +kernel
theorem nd_X2 : ((List.range 3).map (fun k => ((TX2 k).1, (TX2 k).2.1))).Nodup := by decide +kernel
theorem nd_X20 : ((List.range 8).map (fun k => ((TX20 k).1, (TX20 k).2.1))).Nodup := by decide +kernel
theorem nd_X21 : ((List.range 7).map (fun k => ((TX21 k).1, (TX21 k).2.1))).Nodup := by decide +kernel
theorem nd_X22 : ((List.range 10).map (fun k => ((TX22 k).1, (TX22 k).2.1))).Nodup := by decide +kernel
theorem nd_X23 : ((List.range 8).map (fun k => ((TX23 k).1, (TX23 k).2.1))).Nodup := by decide +kernel
theorem nd_X24 : ((List.range 6).map (fun k => ((TX24 k).1, (TX24 k).2.1))).Nodup := by decide +kernel
theorem nd_X25 : ((List.range 7).map (fun k => ((TX25 k).1, (TX25 k).2.1))).Nodup := by decide +kernel
theorem nd_X26 : ((List.range 5).map (fun k => ((TX26 k).1, (TX26 k).2.1))).Nodup := by decide +kernel
theorem nd_X3 : ((List.range 31).map (fun k => ((TX3 k).1, (TX3 k).2.1))).Nodup := by decide +kernel
theorem nd_X6 : ((List.range 5).map (fun k => ((TX6 k).1, (TX6 k).2.1))).Nodup := by decide +kernel
theorem nd_X7 : ((List.range 5).map (fun k => ((TX7 k).1, (TX7 k).2.1))).Nodup := by decide +kernel
theorem nd_X8 : ((List.range 5).map (fun k => ((TX8 k).1, (TX8 k).2.1))).Nodup := by decide +kernel
theorem nd_X9 : ((List.range 5).map (fun k => ((TX9 k).1, (TX9 k).2.1))).Nodup := by decide +kernel
theorem inj_nd {α : Type} {f : Nat → α} {n : Nat} (h : ((List.range n).map f).Nodup) {a b : Nat} (ha : a < n) (hb : b < n) (he : f a = f b) : a = b := by
  rw [List.nodup_iff_pairwise_ne] at h
  rw [List.pairwise_iff_getElem] at h
  have key : ∀ a b : Nat, a < b → b < n → f a ≠ f b := by
    intro a b hab hb
    have := h a b (by simp; omega) (by simp; omega) hab
    simpa using this
  rcases Nat.lt_trichotomy a b with q | q | q
  · exact absurd he (key a b q hb)
  · exact q
  · exact absurd he.symm (key b a q ha)
theorem nm_apart : ∀ (c : Nat) (q : vw_C), wcl[c]? = some q → ∀ a b : Nat, a < q.2.2 → b < q.2.2 → a ≠ b → (q.2.1 a).2.1 ≠ (q.2.1 b).2.1 ∨ (q.2.1 a).1 ≠ (q.2.1 b).1 := by
  intro c q h
  have fin : ∀ {T : u_T} {n : Nat}, ((List.range n).map (fun k => ((T k).1, (T k).2.1))).Nodup → ∀ a b : Nat, a < n → b < n → a ≠ b → (T a).2.1 ≠ (T b).2.1 ∨ (T a).1 ≠ (T b).1 := by
    intro T n hn a b ha hb hne
    by_cases e1 : (T a).2.1 = (T b).2.1
    · by_cases e2 : (T a).1 = (T b).1
      · exact absurd (inj_nd hn ha hb (by rw [e1, e2])) hne
      · exact Or.inr e2
    · exact Or.inl e1
  match c, h with
  | 0, h => cases h; exact fin nd_X11
  | 1, h => cases h; exact fin nd_X1
  | 2, h => cases h; exact fin nd_X2
  | 3, h => cases h; exact fin nd_X3
  | 4, h => cases h; exact fin nd_X6
  | 5, h => cases h; exact fin nd_X6
  | 6, h => cases h; exact fin nd_X6
  | 7, h => cases h; exact fin nd_X7
  | 8, h => cases h; exact fin nd_X8
  | 9, h => cases h; exact fin nd_X9
  | 10, h => cases h; exact fin nd_X10
  | 11, h => cases h; exact fin nd_X11
  | 12, h => cases h; exact fin nd_X12
  | 13, h => cases h; exact fin nd_X13
  | 14, h => cases h; exact fin nd_X14
  | 15, h => cases h; exact fin nd_X15
  | 16, h => cases h; exact fin nd_X16
  | 17, h => cases h; exact fin nd_X17
  | 18, h => cases h; exact fin nd_X18
  | 19, h => cases h; exact fin nd_X19
  | 20, h => cases h; exact fin nd_X20
  | 21, h => cases h; exact fin nd_X21
  | 22, h => cases h; exact fin nd_X22
  | 23, h => cases h; exact fin nd_X23
  | 24, h => cases h; exact fin nd_X24
  | 25, h => cases h; exact fin nd_X25
  | 26, h => cases h; exact fin nd_X26
  | 27, h => cases h; exact fin nd_J13
  | 28, h => cases h; exact fin nd_J3
  | 29, h => cases h; exact fin nd_J4
  | 30, h => cases h; exact fin nd_J17
  | 31, h => cases h; exact fin nd_J18
  | c + 32, h => simp [wcl] at h
section
variable {s : State} {b : Nat}
theorem hs_of (hgv : (Jvm.Cond.and given_1 narrow_1).before #[Value.ref b] s = true) : ∀ c ∈ flatC narrow_1, c.before #[Value.ref b] s = true := fun c hc => flat_of_before _ hgv c (List.mem_append_right _ hc)
theorem start_KW (hts : ∀ w ∈ lw_tbl, w.before #[Value.ref b] s = true) : KW s := by
  intro w hw hk
  have h1 := hts w hw
  cases w with
  | fieldLinkNest a i b n d h => exact va_Nw.of rfl h1
  | methodLinkNest a i x h => exact va_Nw.of rfl h1
  | declares x => exact va_Nw.of rfl h1
  | castable C T => exact va_Nw.of rfl h1
  | arrayOver t =>
    cases t with
    | object C => exact va_AO.of h1
    | array t => exact over_moved (Vm.Alike.refl _) h1
    | _ => exact word_at (State.WarmedH.refl s) (Or.inl hk) h1
  | arrayClass t => exact word_at (State.WarmedH.refl s) (Or.inr ⟨_, rfl⟩) h1
  | _ => exact word_at (State.WarmedH.refl s) (Or.inl hk) h1
theorem start_S (A : Nat → Prop) (hA : ∀ a : Nat, a < s.heap.size → ¬ A a) (hgv : (Jvm.Cond.and given_1 narrow_1).before #[Value.ref b] s = true) : ∃ adK adV : Nat → Nat, ∀ k : Nat, 1 ≤ k → k ≤ 43 → (tmS k).eval #[Value.ref b] s none [] s = some (.ref (adK k)) ∧ va_O "java/lang/String" (adK k) A s s.heap ∧ va_OF "java/lang/String" "coder" "B" (.int 0) (adK k) A s s.heap ∧ va_OF "java/lang/String" "value" "[B" (.ref (adV k)) (adK k) A s s.heap ∧ va_T .byte (adV k) (sby k).length (fun j => vI ((sby k).getD j 0)) A s s.heap := by
  have hs := hs_of hgv
  have h0 : ∀ k : Nat, ∃ q : Nat × Nat, 1 ≤ k → k ≤ 43 → (tmS k).eval #[Value.ref b] s none [] s = some (.ref q.1) ∧ va_O "java/lang/String" q.1 A s s.heap ∧ va_OF "java/lang/String" "coder" "B" (.int 0) q.1 A s s.heap ∧ va_OF "java/lang/String" "value" "[B" (.ref q.2) q.1 A s s.heap ∧ va_T .byte q.2 (sby k).length (fun j => vI ((sby k).getD j 0)) A s s.heap := by
    intro k
    by_cases hk : 1 ≤ k ∧ k ≤ 43
    · have hn : ∀ c ∈ needS k, c.before #[Value.ref b] s = true := fun c hc => hs c (needS_in k (by omega) hk.1 c hc)
      have hex : (Cond.exactly (tmS k) "java/lang/String").before #[Value.ref b] s = true := hn _ (by simp [needS])
      have hco : (Cond.eq (.field (tmS k) "java/lang/String" "coder" "B") (.int 0)).before #[Value.ref b] s = true := hn _ (by simp [needS])
      have har : (Cond.arrayOf (tmV k) .byte).before #[Value.ref b] s = true := hn _ (by simp [needS])
      have hle : (Cond.eq (.length (tmV k)) (.int (Int32.ofNat (sby k).length))).before #[Value.ref b] s = true := hn _ (by simp [needS])
      have hel : ∀ j : Nat, j < (sby k).length → (Cond.eq (.elem (tmV k) (.int (Int32.ofNat j))) (.int (Int32.ofInt ((sby k).getD j 0)))).before #[Value.ref b] s = true := fun j hj => hn _ (List.mem_append_right _ (List.mem_map.mpr ⟨j, List.mem_range.mpr hj, rfl⟩))
      obtain ⟨a, c, cA, kA, q1, q2, q3, q4, q5, q6, -⟩ := Cond.exactly_spec (args := #[Value.ref b]) (first := s) (o := none) (s := s) (idx := []) (t := tmS k) (cls := "java/lang/String") hex
      obtain ⟨t, ht, hT⟩ := va_Tof (f := fun j => vI ((sby k).getD j 0)) (A := A) (by have := sby_len k; omega) har (va_eqt hle) (fun j hj => va_eqt (hel j hj)) hA
      exact ⟨(a, t), fun _ _ => ⟨q1, ⟨cA, q3, q5, by rw [q6]; exact q2, hA a (Array.getElem?_eq_some_iff.mp q3).1⟩, vk_OFof q1 (va_eqt hco) hA, vk_OFof q1 ht hA, hT⟩⟩
    · exact ⟨(0, 0), fun x y => absurd ⟨x, y⟩ hk⟩
  exact ⟨fun k => (Classical.choose (h0 k)).1, fun k => (Classical.choose (h0 k)).2, fun k x y => Classical.choose_spec (h0 k) x y⟩
/-- the strings by their places -/
theorem start_R (hts : ∀ w ∈ lw_tbl, w.before #[Value.ref b] s = true) (hgv : (Jvm.Cond.and given_1 narrow_1).before #[Value.ref b] s = true) {adK : Nat → Nat} (hk : ∀ k : Nat, 1 ≤ k → k ≤ 43 → (tmS k).eval #[Value.ref b] s none [] s = some (.ref (adK k))) : ∀ q ∈ strs, vk_R q.1 q.2.1 q.2.2.1 (adK q.2.2.2) s := by
  have hs := hs_of hgv
  intro q hq
  obtain ⟨h1, h2, h3, h4⟩ := strs_in q hq
  refine vk_R.of (A := #[Value.ref b]) (hts _ h1) ?_
  have e := hk q.2.2.2 h2 (by omega)
  rcases h4 with h4 | h4 | h4
  · rw [h4]; exact e
  · obtain ⟨y, y1, y2⟩ := Cond.eq_one (hs _ h4)
    rw [y1, ← y2, e]
  · obtain ⟨y, y1, y2⟩ := Cond.eq_one (hs _ h4)
    rw [y2, ← y1, e]
theorem start_N (hgv : (Jvm.Cond.and given_1 narrow_1).before #[Value.ref b] s = true) : ∀ q ∈ ncs, va_Nc q.1 q.2 s := fun q hq => va_Nc.of (hs_of hgv _ (ncs_in q hq))
/-- classes that stand -/
theorem wcl_len : wcl.length = 32 := rfl
theorem start_C (hts : ∀ w ∈ lw_tbl, w.before #[Value.ref b] s = true) : ∃ (cc : Nat → ClassId) (iS : Nat → Nat → Nat), ∀ (c : Nat) (q : vw_C), wcl[c]? = some q → u_Kn s q.1 q.2.1 q.2.2 (cc c) (iS c) := by
  have h0 : ∀ c : Nat, ∃ r : ClassId × (Nat → Nat), ∀ q : vw_C, wcl[c]? = some q → u_Kn s q.1 q.2.1 q.2.2 r.1 r.2 := by
    intro c
    cases hc : wcl[c]? with
    | none => exact ⟨(0, fun _ => 0), fun q hq => by cases hq⟩
    | some q =>
      obtain ⟨n, hn⟩ := inst_in c q hc
      obtain ⟨w1, w2, w3⟩ := wcf_ok c q hc
      obtain ⟨cC, iS, h⟩ := u_known (ws := lw_tbl) hts (fun w hw => lw_all_tbl (w2 w hw)) (hts _ hn)
      exact ⟨(cC, iS), fun q' hq' => by cases hq'; exact h⟩
  exact ⟨fun c => (Classical.choose (h0 c)).1, fun c => (Classical.choose (h0 c)).2, fun c q hq => Classical.choose_spec (h0 c) q hq⟩
/-- arrays -/
theorem start_A (hts : ∀ w ∈ lw_tbl, w.before #[Value.ref b] s = true) : ∃ cA : Nat → ClassId, ∀ k : Nat, k < 11 → ArrOfT s (cA k) (aty k) ∧ va_RA s (cA k) (aty k) := by
  have h0 : ∀ k : Nat, ∃ c : ClassId, k < 11 → ArrOfT s c (aty k) ∧ va_RA s c (aty k) := by
    intro k
    by_cases hk : k < 11
    · have hw := hts _ (arrW_in k hk)
      have prim : ∀ ty : FieldType, (∀ C, ty ≠ .object C) → (Cond.arrayClass ty).before #[Value.ref b] s = true → ∃ c : ClassId, ArrOfT s c ty ∧ va_RA s c ty := by
        intro ty hty h
        obtain ⟨c, k1, comp, f1, f2, f3⟩ := Cond.arrayClass_spec h
        refine ⟨c, fun N z => ⟨(fun k h => by cases h), k1, f2, comp, f3⟩, ?_⟩
        cases ty with
        | object C => exact absurd rfl (hty C)
        | _ => exact f1
      have obj : ∀ C : String, (Cond.arrayOver (.object C)).before #[Value.ref b] s = true → ∃ c : ClassId, ArrOfT s c (.object C) ∧ va_RA s c (.object C) := by
        intro C h
        obtain ⟨comp, c, k1, f1, f2, f3, f4, f5⟩ := Cond.arrayOver_spec h
        exact ⟨c, fun N z => ⟨(fun k h => by cases h), k1, f3, comp, f4⟩, k1, comp, f3, f4, f1, f5⟩
      have arr : ∀ t : FieldType, (Cond.arrayOver (.array t)).before #[Value.ref b] s = true → ∃ c : ClassId, ArrOfT s c (.array t) ∧ va_RA s c (.array t) := by
        intro t h
        obtain ⟨comp, c, k1, f1, f2, f3, f4, f5⟩ := arrayOverA_spec h
        exact ⟨c, fun N z => ⟨(fun k h => by cases h), k1, f3, comp, f4⟩, f5⟩
      have fin : ∃ c : ClassId, ArrOfT s c (aty k) ∧ va_RA s c (aty k) := by
        match k, hk, hw with
        | 0, _, hw => exact prim _ (fun C h => by cases h) hw
        | 1, _, hw => exact prim _ (fun C h => by cases h) hw
        | 2, _, hw => exact prim _ (fun C h => by cases h) hw
        | 3, _, hw => exact prim _ (fun C h => by cases h) hw
        | 4, _, hw => exact prim _ (fun C h => by cases h) hw
        | 5, _, hw => exact obj _ hw
        | 6, _, hw => exact obj _ hw
        | 7, _, hw => exact obj _ hw
        | 8, _, hw => exact arr _ hw
        | 9, _, hw => exact arr _ hw
        | 10, _, hw => exact obj _ hw
        | k + 11, hk, _ => omega
      obtain ⟨c, hc⟩ := fin
      exact ⟨c, fun _ => hc⟩
    · exact ⟨0, fun h => absurd h hk⟩
  exact ⟨fun k => Classical.choose (h0 k), fun k hk => Classical.choose_spec (h0 k) hk⟩
theorem laid_nm {C O f d : String} {cf fi : Nat} {kf : Class} {fd : Field} {args : Array Value} (h : (Cond.lays C O f d).before args s = true ∨ (Cond.laysFinal C O f d).before args s = true) (hi : s.fieldFound? O f d = some (cf, kf, fi, fd)) : ∃ (c : ClassId) (q : Class × Field), s.vm.findClass C = some c ∧ Jmm.declares? s.vm fd.slot (c + 1) c = some q ∧ q.1.name = O := by
  have nm : ∀ {c : ClassId}, s.vm.findClass O = some c → s.vm.classes[c]? = some kf → kf.name = O := by
    intro c h1 h2
    obtain ⟨k, k1, k2⟩ := Vm.findClass_spec h1
    cases h2.symm.trans k1
    exact k2
  have hkf := (State.fieldFound?_spec hi).1
  rcases h with h | h
  · obtain ⟨c, k, c', k', i, g, h1, h2, h3, h4, h5, h6, h7, q, q1, q2, q3⟩ := Cond.lays_spec h
    cases hi.symm.trans h3
    have ho : s.vm.findClass O = some cf := by
      simp only [Cond.before, Cond.holds, Cond.value, h1, h3, h2, Option.map_some] at h
      simp only [beq_iff_eq, Option.some.injEq, Bool.and_eq_true, decide_eq_true_eq] at h
      exact h.1.1.2
    exact ⟨c, q, h1, q1, q2.trans (nm ho hkf)⟩
  · obtain ⟨c, k, c', k', i, g, h1, h2, h3, h4, h5, h6, ho, h7, q, q1, q2, q3⟩ := Cond.laysFinal_spec h
    cases hi.symm.trans h3
    exact ⟨c, q, h1, q1, q2.trans (nm ho hkf)⟩
theorem start_AP (hts : ∀ w ∈ lw_tbl, w.before #[Value.ref b] s = true) {cc : Nat → ClassId} {iS : Nat → Nat → Nat} (hK : ∀ (c : Nat) (q : vw_C), wcl[c]? = some q → u_Kn s q.1 q.2.1 q.2.2 (cc c) (iS c)) : ∀ ci x y : Nat, ci < 32 → x < wN ci → y < wN ci → x ≠ y → iS ci x ≠ iS ci y := by
  intro ci x y hci hx hy hne
  obtain ⟨q, hq⟩ : ∃ q, wcl[ci]? = some q := ⟨_, List.getElem?_eq_getElem (by rw [wcl_len]; exact hci)⟩
  obtain ⟨w1, w2, w3⟩ := wcf_ok ci q hq
  obtain ⟨k1, k2⟩ := hK ci q hq
  rw [← w1] at hx hy
  have lays := fun (k : Nat) (hk : k < q.2.2) => u_lays (ws := lw_tbl) (args := #[Value.ref b]) (C := q.1) (T := q.2.1) (N := q.2.2) hts (fun w hw => lw_all_tbl (w2 w hw)) hk
  obtain ⟨cf, kf, fi, fd, hi, he⟩ := k1 x hx
  obtain ⟨cf', kf', fi', fd', hi', he'⟩ := k1 y hy
  rw [← he, ← he']
  rcases nm_apart ci q hq x y hx hy hne with hn | hn
  · refine u_apart (lays x hx) (lays y hy) hi hi' ?_
    rw [(State.fieldFound?_type hi (w3 x hx)).1, (State.fieldFound?_type hi' (w3 y hy)).1]
    exact hn
  · intro hs
    obtain ⟨c, p, p1, p2, p3⟩ := laid_nm (lays x hx) hi
    obtain ⟨c', p', p1', p2', p3'⟩ := laid_nm (lays y hy) hi'
    cases p1.symm.trans p1'
    rw [hs] at p2
    cases p2.symm.trans p2'
    exact hn (p3.symm.trans p3')
end
