/-! CORE 1: the tables' words that stay (KW), numbers, the judgement E over the kit's W -/
set_option maxRecDepth 100000
def kw : Cond → Bool
  | .fieldLinkNest .. => true
  | .methodLinkNest .. => true
  | .declares _ => true
  | .castable .. => true
  | .arrayOver (.object _) => true
  | .arrayOver (.array _) => true
  | .arrayClass _ => true
  | w => w.onTables && w.keeps
def KW (U : State) : Prop := ∀ w ∈ lw_tbl, kw w = true → w.before #[] U = true
theorem KW.warm {s U : State} (hW : s.WarmedH U.vm) (h : KW s) : KW U := by
  intro w hw hk
  have h1 := h w hw hk
  cases w with
  | fieldLinkNest a i b n d h => exact va_Nw.warmF hW h1
  | methodLinkNest a i x h => exact va_Nw.warmM hW h1
  | declares x => exact va_Nw.warmD hW h1
  | castable C T => exact va_Nw.warmC hW h1
  | arrayOver t =>
    cases t with
    | object C => exact va_AO.moved hW.alike h1
    | array t => exact over_moved hW.alike h1
    | _ => exact word_at hW (Or.inl hk) h1
  | arrayClass t => exact word_at hW (Or.inr ⟨_, rfl⟩) h1
  | _ => exact word_at hW (Or.inl hk) h1
theorem KW.use {s : State} (h : KW s) {w : Cond} (hw : w ∈ lw_tbl) (hk : kw w = true) (A : Array Value) : w.before A s = true := by
  have h1 := h w hw hk
  cases w with
  | fieldLinkNest a i b n d h => exact va_Nw.use rfl h1
  | methodLinkNest a i x h => exact va_Nw.use rfl h1
  | declares x => exact va_Nw.use rfl h1
  | castable C T => exact va_Nw.use rfl h1
  | arrayOver t =>
    cases t with
    | object C => exact va_AO.use h1
    | array t => exact over_moved (Vm.Alike.refl _) h1
    | _ => exact word_at (State.WarmedH.refl s) (Or.inl hk) h1
  | arrayClass t => exact word_at (State.WarmedH.refl s) (Or.inr ⟨_, rfl⟩) h1
  | _ => exact word_at (State.WarmedH.refl s) (Or.inl hk) h1
/-! numbers -/
def R32 (x : Int) : Prop := -2147483648 ≤ x ∧ x ≤ 2147483647
def R64 (x : Int) : Prop := -9223372036854775808 ≤ x ∧ x ≤ 9223372036854775807
def w32 (x : Int) : Int := (Int32.ofInt x).toInt
def w64 (x : Int) : Int := (Int64.ofInt x).toInt
theorem R32_to (a : Int32) : R32 a.toInt := ⟨by have := a.le_toInt; exact this, by have := a.toInt_lt; omega⟩
theorem R64_to (a : Int64) : R64 a.toInt := ⟨by have := a.le_toInt; exact this, by have := a.toInt_lt; omega⟩
theorem w32_R (x : Int) : R32 (w32 x) := R32_to _
theorem w64_R (x : Int) : R64 (w64 x) := R64_to _
theorem w32_eq {x : Int} (h : R32 x) : w32 x = x := by
  unfold w32
  exact Int32.toInt_ofInt_of_le (by have := h.1; omega) (by have := h.2; omega)
theorem w64_eq {x : Int} (h : R64 x) : w64 x = x := by
  unfold w64
  exact Int64.toInt_ofInt_of_le (by have := h.1; omega) (by have := h.2; omega)
theorem of_w32 (x : Int) : Int32.ofInt (w32 x) = Int32.ofInt x := by unfold w32; exact Int32.ofInt_toInt _
theorem of_w64 (x : Int) : Int64.ofInt (w64 x) = Int64.ofInt x := by unfold w64; exact Int64.ofInt_toInt _
abbrev cI (x : Int) : Int32 := Int32.ofInt x
abbrev cJ (x : Int) : Int64 := Int64.ofInt x
def ishl (x y : Int) : Int := (cI x <<< (cI y &&& 31)).toInt
def ishr (x y : Int) : Int := (cI x >>> (cI y &&& 31)).toInt
def iand (x y : Int) : Int := (cI x &&& cI y).toInt
def ior (x y : Int) : Int := (cI x ||| cI y).toInt
def ixor (x y : Int) : Int := (cI x ^^^ cI y).toInt
def idv (x y : Int) : Int := (cI x / cI y).toInt
def irm (x y : Int) : Int := (cI x - cI x / cI y * cI y).toInt
def lshl (x y : Int) : Int := (cJ x <<< ((cI y).toInt64 &&& 63)).toInt
def lshr (x y : Int) : Int := (cJ x >>> ((cI y).toInt64 &&& 63)).toInt
def land (x y : Int) : Int := (cJ x &&& cJ y).toInt
def lor (x y : Int) : Int := (cJ x ||| cJ y).toInt
def lxor (x y : Int) : Int := (cJ x ^^^ cJ y).toInt
def l2i (x : Int) : Int := (cJ x).toInt32.toInt
def i2c (x : Int) : Int := ((cI x).toUInt32 % 65536).toInt32.toInt
theorem cI_lt {a b : Int} (ha : R32 a) (hb : R32 b) : cI a < cI b ↔ a < b := by
  rw [Int32.lt_iff_toInt_lt]
  have e1 := w32_eq ha
  have e2 := w32_eq hb
  unfold w32 at e1 e2
  rw [e1, e2]
theorem cI_le {a b : Int} (ha : R32 a) (hb : R32 b) : cI a ≤ cI b ↔ a ≤ b := by
  rw [Int32.le_iff_toInt_le]
  have e1 := w32_eq ha
  have e2 := w32_eq hb
  unfold w32 at e1 e2
  rw [e1, e2]
theorem cI_eq {a b : Int} (ha : R32 a) (hb : R32 b) : cI a = cI b ↔ a = b := by
  refine ⟨fun h => ?_, fun h => by rw [h]⟩
  have := congrArg Int32.toInt h
  have e1 := w32_eq ha
  have e2 := w32_eq hb
  unfold w32 at e1 e2
  rwa [e1, e2] at this
theorem cJ_lt {a b : Int} (ha : R64 a) (hb : R64 b) : cJ a < cJ b ↔ a < b := by
  rw [Int64.lt_iff_toInt_lt]
  have e1 := w64_eq ha
  have e2 := w64_eq hb
  unfold w64 at e1 e2
  rw [e1, e2]
theorem cJ_le {a b : Int} (ha : R64 a) (hb : R64 b) : cJ a ≤ cJ b ↔ a ≤ b := by
  rw [Int64.le_iff_toInt_le]
  have e1 := w64_eq ha
  have e2 := w64_eq hb
  unfold w64 at e1 e2
  rw [e1, e2]
theorem cJ_eq {a b : Int} (ha : R64 a) (hb : R64 b) : cJ a = cJ b ↔ a = b := by
  refine ⟨fun h => ?_, fun h => by rw [h]⟩
  have := congrArg Int64.toInt h
  have e1 := w64_eq ha
  have e2 := w64_eq hb
  unfold w64 at e1 e2
  rwa [e1, e2] at this
/-! the world -/
/-- cells made, slots made, kinds, lengths, values -/
abbrev CH : Type := Nat × Nat × (Int → Nat) × (Int → Nat) × (Int → Int → Int)
abbrev TS : Type := Int → Int → Int
abbrev Wd : Type := CH × TS
abbrev hn (h : CH) : Nat := h.1
abbrev hz (h : CH) : Nat := h.2.1
abbrev hk (h : CH) : Int → Nat := h.2.2.1
abbrev hl (h : CH) : Int → Nat := h.2.2.2.1
abbrev hv (h : CH) : Int → Int → Int := h.2.2.2.2
/-- the launch, the last old address, the old heap, the classes' numbers and slots, the array classes, addresses of old cells that are named -/
abbrev gC : Type := Launch × Nat × Heap × va_G × (Nat → ClassId) × (Nat → Nat)
abbrev gL (g : gC) : Launch := g.1
abbrev gB (g : gC) : Nat := g.2.1
abbrev gH (g : gC) : Heap := g.2.2.1
abbrev gD (g : gC) : va_G := g.2.2.2.1
abbrev gA (g : gC) : Nat → ClassId := g.2.2.2.2.1
abbrev gS (g : gC) : Nat → Nat := g.2.2.2.2.2
def rR (g : gC) (x : Int) : Option Nat := if 0 < x then some (gB g + x.toNat) else if x = 0 then none else some (gS g (-x).toNat)
def vI (x : Int) : Value := .int (Int32.ofInt x)
def vJ (x : Int) : Value := .long (Int64.ofInt x)
def vA (g : gC) (x : Int) : Value := va_rf (rR g x)
def enc (g : gC) (ty : FieldType) (x : Int) : Value := match ty with
  | .long => vJ x
  | .object _ => vA g x
  | .array _ => vA g x
  | _ => vI x
def rg (ty : FieldType) (x : Int) : Prop := match ty with
  | .long => R64 x
  | .object _ => True
  | .array _ => True
  | .boolean => x = 0 ∨ x = 1
  | .char => 0 ≤ x ∧ x ≤ 65535
  | .byte => -128 ≤ x ∧ x ≤ 127
  | _ => R32 x
def wcl : List vw_C := [(RX11, TX11, 136), (RX1, TX1, 11), (RX2, TX2, 3), (RX3, TX3, 31), (RX6, TX6, 5), (RX6, TX6, 5), (RX6, TX6, 5), (RX7, TX7, 5), (RX8, TX8, 5), (RX9, TX9, 5), (RX10, TX10, 5), (RX11, TX11, 136), (RX12, TX12, 23), (RX13, TX13, 10), (RX14, TX14, 8), (RX15, TX15, 8), (RX16, TX16, 11), (RX17, TX17, 2), (RX18, TX18, 9), (RX19, TX19, 6), (RX20, TX20, 8), (RX21, TX21, 7), (RX22, TX22, 10), (RX23, TX23, 8), (RX24, TX24, 6), (RX25, TX25, 7), (RX26, TX26, 5), (RJ13, TJ13, 3), (RJ3, TJ3, 6), (RJ4, TJ4, 6), (RJ17, TJ17, 6), (RJ18, TJ18, 6)]
def wN : Nat → Nat := fun c => match c with
  | 0 => 136 | 1 => 11 | 2 => 3 | 3 => 31 | 4 => 5 | 5 => 5 | 6 => 5 | 7 => 5 | 8 => 5 | 9 => 5 | 10 => 5 | 11 => 136 | 12 => 23 | 13 => 10 | 14 => 8 | 15 => 8 | 16 => 11 | 17 => 2 | 18 => 9 | 19 => 6 | 20 => 8 | 21 => 7 | 22 => 10 | 23 => 8 | 24 => 6 | 25 => 7 | 26 => 5 | 27 => 3 | 28 => 6 | 29 => 6 | 30 => 6 | 31 => 6 | _ => 0
def wty : Nat → Nat → FieldType := fun c => match c with
  | 0 => tyX11 | 1 => tyX1 | 2 => tyX2 | 3 => tyX3 | 4 => tyX6 | 5 => tyX6 | 6 => tyX6 | 7 => tyX7 | 8 => tyX8 | 9 => tyX9 | 10 => tyX10 | 11 => tyX11 | 12 => tyX12 | 13 => tyX13 | 14 => tyX14 | 15 => tyX15 | 16 => tyX16 | 17 => tyX17 | 18 => tyX18 | 19 => tyX19 | 20 => tyX20 | 21 => tyX21 | 22 => tyX22 | 23 => tyX23 | 24 => tyX24 | 25 => tyX25 | 26 => tyX26 | 27 => tyJ13 | 28 => tyJ3 | 29 => tyJ4 | 30 => tyJ17 | _ => tyJ18
/-- what the printed words say of a class of the table -/
def wcf (c : Nat) (q : vw_C) : Prop := q.2.2 = wN c ∧ (∀ w ∈ u_ws q.1 q.2.1 q.2.2, w ∈ lw_all) ∧ (∀ k, k < q.2.2 → parseFieldDescriptor (q.2.1 k).2.2.1 = some (wty c k))
theorem wcf_ok : ∀ (c : Nat) (q : vw_C), wcl[c]? = some q → wcf c q := by
  intro c q h
  match c, h with
  | 0, h => cases h; exact ⟨rfl, in_X11, tyX11_ok⟩
  | 1, h => cases h; exact ⟨rfl, in_X1, tyX1_ok⟩
  | 2, h => cases h; exact ⟨rfl, in_X2, tyX2_ok⟩
  | 3, h => cases h; exact ⟨rfl, in_X3, tyX3_ok⟩
  | 4, h => cases h; exact ⟨rfl, in_X6, tyX6_ok⟩
  | 5, h => cases h; exact ⟨rfl, in_X6, tyX6_ok⟩
  | 6, h => cases h; exact ⟨rfl, in_X6, tyX6_ok⟩
  | 7, h => cases h; exact ⟨rfl, in_X7, tyX7_ok⟩
  | 8, h => cases h; exact ⟨rfl, in_X8, tyX8_ok⟩
  | 9, h => cases h; exact ⟨rfl, in_X9, tyX9_ok⟩
  | 10, h => cases h; exact ⟨rfl, in_X10, tyX10_ok⟩
  | 11, h => cases h; exact ⟨rfl, in_X11, tyX11_ok⟩
  | 12, h => cases h; exact ⟨rfl, in_X12, tyX12_ok⟩
  | 13, h => cases h; exact ⟨rfl, in_X13, tyX13_ok⟩
  | 14, h => cases h; exact ⟨rfl, in_X14, tyX14_ok⟩
  | 15, h => cases h; exact ⟨rfl, in_X15, tyX15_ok⟩
  | 16, h => cases h; exact ⟨rfl, in_X16, tyX16_ok⟩
  | 17, h => cases h; exact ⟨rfl, in_X17, tyX17_ok⟩
  | 18, h => cases h; exact ⟨rfl, in_X18, tyX18_ok⟩
  | 19, h => cases h; exact ⟨rfl, in_X19, tyX19_ok⟩
  | 20, h => cases h; exact ⟨rfl, in_X20, tyX20_ok⟩
  | 21, h => cases h; exact ⟨rfl, in_X21, tyX21_ok⟩
  | 22, h => cases h; exact ⟨rfl, in_X22, tyX22_ok⟩
  | 23, h => cases h; exact ⟨rfl, in_X23, tyX23_ok⟩
  | 24, h => cases h; exact ⟨rfl, in_X24, tyX24_ok⟩
  | 25, h => cases h; exact ⟨rfl, in_X25, tyX25_ok⟩
  | 26, h => cases h; exact ⟨rfl, in_X26, tyX26_ok⟩
  | 27, h => cases h; exact ⟨rfl, in_J13, tyJ13_ok⟩
  | 28, h => cases h; exact ⟨rfl, in_J3, tyJ3_ok⟩
  | 29, h => cases h; exact ⟨rfl, in_J4, tyJ4_ok⟩
  | 30, h => cases h; exact ⟨rfl, in_J17, tyJ17_ok⟩
  | 31, h => cases h; exact ⟨rfl, in_J18, tyJ18_ok⟩
  | c + 32, h => simp [wcl] at h
/-- element types of the arrays: kinds 0 .. 10 -/
def aty : Nat → FieldType := fun k => match k with
  | 0 => .int | 1 => .long | 2 => .char | 3 => .boolean | 4 => .byte | 5 => .object "LazyForge$Part" | 6 => .object "LazyForge$Raw" | 7 => .object "LazyForge$Variable" | 8 => .array .long | 9 => .array (.object "LazyForge$Variable") | _ => .object "java/lang/Object"
def wtys (g : gC) : List (ClassId × FieldType) := (List.range 11).map fun k => (gA g k, aty k)
theorem wtys_at (g : gC) {k : Nat} (h : k < 11) : (wtys g)[k]? = some (gA g k, aty k) := by
  unfold wtys
  rw [List.getElem?_map, List.getElem?_range h]
  rfl
def aE (g : gC) (ty : FieldType) (f : Int → Int) : (Nat → Int32) ⊕ (Nat → Int64) ⊕ (Nat → UInt32) ⊕ (Nat → UInt64) ⊕ (Nat → Option Nat) := match ty with
  | .long => .inr (.inl fun i => Int64.ofInt (f i))
  | .object _ => .inr (.inr (.inr (.inr fun i => rR g (f i))))
  | .array _ => .inr (.inr (.inr (.inr fun i => rR g (f i))))
  | _ => .inl fun i => Int32.ofInt (f i)
/-- the string constants: class, entry, text, number -/
def strs : List (String × Nat × String × Nat) := [("LazyForge$Reader", 54, "False", 1), ("LazyForge$Reader", 64, "True", 2), ("LazyForge$Reader", 82, "data let in case of fail ", 3), ("LazyForge$Reader", 134, "(){}=;,\\._+-*/%<|", 4), ("LazyForge$Reader", 173, "data", 5), ("LazyForge$Reader", 184, "|", 6), ("LazyForge$Reader", 186, ";", 7), ("LazyForge$Reader", 198, "=", 8), ("LazyForge$Reader", 214, "let", 9), ("LazyForge$Reader", 246, ",", 10), ("LazyForge$Reader", 248, "in", 11), ("LazyForge$Reader", 218, "case", 12), ("LazyForge$Reader", 253, "of", 13), ("LazyForge$Reader", 255, "{", 14), ("LazyForge$Reader", 266, "_", 15), ("LazyForge$Reader", 272, "->", 16), ("LazyForge$Reader", 274, "}", 17), ("LazyForge$Reader", 223, "\\", 18), ("LazyForge$Reader", 238, ".", 19), ("LazyForge$Reader", 309, "(", 20), ("LazyForge$Reader", 311, "fail", 21), ("LazyForge$Reader", 329, ")", 22), ("LazyForge$Reader", 303, "*", 23), ("LazyForge$Reader", 305, "/", 24), ("LazyForge$Reader", 307, "%", 25), ("LazyForge$Reader", 296, "+", 26), ("LazyForge$Reader", 298, "-", 27), ("LazyForge$Reader", 283, "==", 28), ("LazyForge$Reader", 285, "<", 29), ("LazyForge$Reader", 287, "<=", 30), ("LazyForge$Resolver", 76, "main", 31), ("LazyForge$Writer", 75, "data ", 32), ("LazyForge$Writer", 77, " | ", 33), ("LazyForge$Writer", 83, ";\n", 34), ("LazyForge$Writer", 67, "main", 31), ("LazyForge$Writer", 107, " = ", 35), ("LazyForge$Case", 102, "(case ", 36), ("LazyForge$Fail", 19, "fail", 21), ("LazyForge$Let", 117, "(let ", 37), ("LazyForge$Let", 125, ", ", 38), ("LazyForge$Let", 131, " = ", 35), ("LazyForge", 1, "+", 26), ("LazyForge", 3, "-", 27), ("LazyForge", 5, "*", 23), ("LazyForge", 7, "/", 24), ("LazyForge", 9, "%", 25), ("LazyForge", 11, "==", 28), ("LazyForge", 13, "<", 29), ("LazyForge", 15, "<=", 30), ("LazyForge$Let", 137, " in ", 39), ("LazyForge$Case", 114, " of {", 40), ("LazyForge$Case", 116, "; ", 41), ("LazyForge$Case", 130, " -> ", 42), ("LazyForge$Case", 132, "})", 43)]
/-! the twin: its cells; (field, kind, length) in the order in which they are made -/
def tarr : List (Nat × Nat × Nat) := [(1, 0, 3000), (3, 0, 12000), (13, 0, 3200), (14, 0, 3200), (15, 0, 3200), (16, 0, 3200), (17, 0, 3200), (18, 0, 3200), (19, 0, 3200), (20, 1, 3200), (21, 0, 3200), (22, 0, 3200), (24, 1, 3200), (28, 1, 640), (29, 0, 640), (30, 0, 640), (32, 1, 30), (33, 0, 30), (36, 0, 3200), (37, 0, 3200), (38, 0, 3200), (39, 0, 3200), (41, 0, 3200), (47, 0, 3200), (48, 0, 640), (49, 0, 5760), (51, 0, 3200), (52, 0, 3200), (53, 0, 640), (54, 0, 3200), (56, 1, 3200), (57, 0, 3200), (59, 0, 64), (60, 0, 3200), (61, 0, 3200), (62, 0, 3200), (64, 0, 7000), (65, 0, 7000), (66, 0, 7000), (67, 0, 7000), (68, 0, 7000), (69, 3, 7000), (70, 0, 7000), (71, 0, 7000), (72, 1, 7000), (74, 0, 14000), (75, 0, 14000), (76, 0, 14000), (77, 0, 14000), (78, 0, 14000), (79, 0, 640), (80, 0, 640), (81, 0, 640), (82, 0, 640), (84, 0, 7000), (85, 3, 163840), (86, 3, 7000), (87, 3, 640), (91, 3, 5120), (92, 0, 4100), (93, 0, 4100), (94, 1, 4100), (95, 0, 4100), (96, 0, 4100), (99, 1, 4100), (110, 0, 640), (114, 0, 1000), (117, 0, 202000), (118, 0, 202000), (119, 0, 202000), (121, 1, 580000), (124, 1, 193000), (129, 0, 8000), (130, 0, 8000), (131, 0, 640), (133, 1, 4200), (135, 0, 12001)]
def t0 : Nat := 21
def tq (j : Nat) : Nat × Nat × Nat := tarr.getD (j - 1) (0, 0, 0)
def tj (k : Nat) : Nat := ((tarr.map fun q => q.1).findIdx? (fun q => q == k)).elim 0 (fun i => i + 1)
def tV (g : gC) (ts : TS) (k : Nat) : Value := if tj k = 0 then enc g (tyX11 k) (ts k 0) else vA g ((t0 + tj k : Nat) : Int)
/-- what stands in a cell -/
def cAt (g : gC) (w : Wd) (x : Int) (H : Heap) : Prop :=
  if hk w.1 x = 99 then
    (if x = (t0 : Int) then t_OB (gB g + x.toNat) ((gD g).1 11) 136 ((gD g).2 11) H (tV g w.2)
    else H[gB g + x.toNat]? = some (arrV (gA g (tq (x.toNat - t0)).2.1) (tq (x.toNat - t0)).2.2 (fun i => enc g (aty (tq (x.toNat - t0)).2.1) (w.2 (tq (x.toNat - t0)).1 i))))
  else if hk w.1 x < 99 then H[gB g + x.toNat]? = some (arrV (gA g (hk w.1 x)) (hl w.1 x) (fun i => enc g (aty (hk w.1 x)) (hv w.1 x i)))
  else t_OB (gB g + x.toNat) ((gD g).1 (hk w.1 x - 100)) (wN (hk w.1 x - 100)) ((gD g).2 (hk w.1 x - 100)) H (fun k => enc g (wty (hk w.1 x - 100) k) (hv w.1 x k))
/-- the ranges of what is held -/
def cR (w : Wd) (x : Int) : Prop :=
  if hk w.1 x = 99 then (if x = (t0 : Int) then ∀ k : Nat, k < 136 → tj k = 0 → rg (tyX11 k) (w.2 k 0) else ∀ i : Int, rg (aty (tq (x.toNat - t0)).2.1) (w.2 (tq (x.toNat - t0)).1 i))
  else if hk w.1 x < 99 then hl w.1 x ≤ 2147483647 ∧ ∀ i : Int, rg (aty (hk w.1 x)) (hv w.1 x i)
  else ∀ k : Nat, k < wN (hk w.1 x - 100) → rg (wty (hk w.1 x - 100) k) (hv w.1 x k)
def NM : Nat := 600384
def ZM : Nat := 7291370
/-- the kinds that an array of references of kind kd may hold -/
def alw : Nat → List Nat := fun kd => match kd with
  | 5 => [106, 107, 108, 109, 110, 118, 119, 120, 121, 122, 123, 124, 125, 126]
  | 6 => [113]
  | 7 => [117]
  | 8 => [1]
  | 9 => [7]
  | _ => [116, 117, 106, 107, 108, 109, 110, 118, 119, 120, 121, 122, 123, 124, 125, 126]
def okEl (h : CH) (kd : Nat) (v : Int) : Prop := v = 0 ∨ (0 < v ∧ v ≤ hn h ∧ hk h v ∈ alw kd)
/-- what arrays of references hold -/
def ET (h : CH) : Prop := ∀ x : Int, 0 < x → x ≤ hn h → 5 ≤ hk h x → hk h x < 11 → ∀ i : Int, okEl h (hk h x) (hv h x i)
def HR (g : gC) (w : Wd) (H : Heap) : Prop := H.size = gB g + 1 + hn w.1 ∧ (∀ q, q ≤ gB g → H[q]? = (gH g)[q]?) ∧ (hn w.1 ≤ NM ∧ ET w.1) ∧ hz w.1 ≤ ZM ∧ ∀ x : Int, 0 < x → x ≤ hn w.1 → cAt g w x H ∧ cR w x
/-- no two fields of a class share a slot -/
def AP (g : gC) : Prop := ∀ ci a b : Nat, ci < 32 → a < wN ci → b < wN ci → a ≠ b → (gD g).2 ci a ≠ (gD g).2 ci b
/-! what holds of the constants: strings, statics, pairs that can't be cast -/
/-- pairs of classes that can't be cast -/
def ncs : List (String × String) := [("java/lang/UnsupportedOperationException", "java/lang/IllegalArgumentException"), ("java/lang/IndexOutOfBoundsException", "java/lang/IllegalStateException"), ("java/lang/IllegalArgumentException", "java/lang/IllegalStateException"), ("java/lang/IllegalArgumentException", "java/lang/IndexOutOfBoundsException"), ("java/lang/UnsupportedOperationException", "java/lang/IllegalStateException"), ("LazyForge$Let", "LazyForge$Literal"), ("LazyForge$Named", "LazyForge$Literal"), ("LazyForge$Use", "LazyForge$Literal"), ("LazyForge$Apply", "LazyForge$Literal"), ("LazyForge$Case", "LazyForge$Literal"), ("LazyForge$Sign", "LazyForge$Literal"), ("LazyForge$Made", "LazyForge$Literal"), ("LazyForge$Fail", "LazyForge$Literal"), ("LazyForge$Let", "LazyForge$Named"), ("LazyForge$Use", "LazyForge$Named"), ("LazyForge$Apply", "LazyForge$Named"), ("LazyForge$Case", "LazyForge$Named"), ("LazyForge$Sign", "LazyForge$Named"), ("LazyForge$Literal", "LazyForge$Named"), ("LazyForge$Made", "LazyForge$Named"), ("LazyForge$Fail", "LazyForge$Named"), ("LazyForge$Let", "LazyForge$Made"), ("LazyForge$Named", "LazyForge$Made"), ("LazyForge$Use", "LazyForge$Made"), ("LazyForge$Apply", "LazyForge$Made"), ("LazyForge$Case", "LazyForge$Made"), ("LazyForge$Sign", "LazyForge$Made"), ("LazyForge$Literal", "LazyForge$Made"), ("LazyForge$Fail", "LazyForge$Made"), ("LazyForge$Let", "LazyForge$Apply"), ("LazyForge$Named", "LazyForge$Apply"), ("LazyForge$Use", "LazyForge$Apply"), ("LazyForge$Case", "LazyForge$Apply"), ("LazyForge$Sign", "LazyForge$Apply"), ("LazyForge$Literal", "LazyForge$Apply"), ("LazyForge$Made", "LazyForge$Apply"), ("LazyForge$Fail", "LazyForge$Apply")]
/-- the bytes of the string constants -/
def bytS : List (List Int) := [[70, 97, 108, 115, 101], [84, 114, 117, 101], [100, 97, 116, 97, 32, 108, 101, 116, 32, 105, 110, 32, 99, 97, 115, 101, 32, 111, 102, 32, 102, 97, 105, 108, 32], [40, 41, 123, 125, 61, 59, 44, 92, 46, 95, 43, 45, 42, 47, 37, 60, 124], [100, 97, 116, 97], [124], [59], [61], [108, 101, 116], [44], [105, 110], [99, 97, 115, 101], [111, 102], [123], [95], [45, 62], [125], [92], [46], [40], [102, 97, 105, 108], [41], [42], [47], [37], [43], [45], [61, 61], [60], [60, 61], [109, 97, 105, 110], [100, 97, 116, 97, 32], [32, 124, 32], [59, 10], [32, 61, 32], [40, 99, 97, 115, 101, 32], [40, 108, 101, 116, 32], [44, 32], [32, 105, 110, 32], [32, 111, 102, 32, 123], [59, 32], [32, 45, 62, 32], [125, 41]]
def sby (k : Nat) : List Int := bytS.getD (k - 1) []
def AB (g : gC) : Nat → Prop := fun q => gB g < q
/-- a static field's place -/
def LSt (C n d : String) (A : Nat → Prop) (U : State) (H : Heap) : Prop := ∃ (c : ClassId) (k : Class) (i : Nat) (f : Field) (a : Nat) (cell : Cell), U.vm.findClass C = some c ∧ U.fieldFound? C n d = some (c, k, i, f) ∧ f.isStatic = true ∧ k.statics = some a ∧ H[a]? = some cell ∧ cell.vm.isStatics = true ∧ cell.cls = c ∧ f.slot < cell.slots.size ∧ k.staticTypes[f.slot]? = some f.type ∧ ¬ A a
theorem LSt.moved {C n d : String} {A : Nat → Prop} {u U : State} {H : Heap} (hvm : u.vm.Alike U.vm) (h : LSt C n d A u H) : LSt C n d A U H := by
  obtain ⟨c, k, i, f, a, cell, h0, h1, h2, h3, h4, h5, h6, h7, h8, h9⟩ := h
  obtain ⟨k', hi', he⟩ := State.fieldFound?_setVm hvm h1
  exact ⟨c, k', i, f, a, cell, by rw [hvm.findClass]; exact h0, hi', h2, by rw [he]; exact h3, h4, h5, h6, h7, by rw [he]; exact h8, h9⟩
/-- what the old heap holds: strings, statics, the empty array of a list, a class's object; the classes of exceptions whose contents are not told -/
def KS (g : gC) (U : State) : Prop := (∀ k : Nat, 1 ≤ k → k ≤ 43 → va_O "java/lang/String" (gS g k) (AB g) U (gH g) ∧ va_OF "java/lang/String" "coder" "B" (.int 0) (gS g k) (AB g) U (gH g) ∧ va_OF "java/lang/String" "value" "[B" (.ref (gS g (100 + k))) (gS g k) (AB g) U (gH g) ∧ va_T .byte (gS g (100 + k)) (sby k).length (fun j => vI ((sby k).getD j 0)) (AB g) U (gH g))
  ∧ va_Z "java/lang/String" "COMPACT_STRINGS" "Z" (vI 1) (AB g) U (gH g) ∧ va_Z "java/util/ArrayList" "DEFAULTCAPACITY_EMPTY_ELEMENTDATA" "[Ljava/lang/Object;" (.ref (gS g 200)) (AB g) U (gH g) ∧ va_T (.object "java/lang/Object") (gS g 200) 0 (fun _ => .null) (AB g) U (gH g)
  ∧ va_Zq "jdk/internal/util/Preconditions" "SIOOBE_FORMATTER" "Ljava/util/function/BiFunction;" (AB g) U (gH g) ∧ va_Zq "java/lang/Throwable" "UNASSIGNED_STACK" "[Ljava/lang/StackTraceElement;" (AB g) U (gH g) ∧ va_Zq "java/lang/Throwable" "SUPPRESSED_SENTINEL" "Ljava/util/List;" (AB g) U (gH g)
  ∧ va_Mi "[Ljava/lang/Object;" (gS g 202) U ∧ (∀ j : Nat, 28 ≤ j → j ≤ 31 → (gD g).1 (100 + j) = (gD g).1 j) ∧ (gH g).size = gB g + 1 ∧ (gL g).stackTraces = false ∧ LSt "java/lang/Throwable" "UNASSIGNED_STACK" "[Ljava/lang/StackTraceElement;" (AB g) U (gH g) ∧ LSt "java/lang/Throwable" "SUPPRESSED_SENTINEL" "Ljava/util/List;" (AB g) U (gH g)
theorem KS.warm {g : gC} {s U : State} (hW : s.WarmedH U.vm) (h : KS g s) : KS g U := by
  obtain ⟨h1, h2, h3, h4, h5, h6, h7, h8, h9, h10, h11, h12, h13⟩ := h
  refine ⟨fun k a b => ?_, va_Z.moved hW.alike h2, va_Z.moved hW.alike h3, va_T.moved hW.alike h4, va_Zq.moved hW.alike h5, va_Zq.moved hW.alike h6, va_Zq.moved hW.alike h7, va_Mi.moved hW.alike h8, h9, h10, h11, LSt.moved hW.alike h12, LSt.moved hW.alike h13⟩
  obtain ⟨a1, a2, a3, a4⟩ := h1 k a b
  exact ⟨va_O.moved hW.alike a1, va_OF.moved hW.alike a2, va_OF.moved hW.alike a3, va_T.moved hW.alike a4⟩
def SK (g : gC) (U : State) : Prop := (∀ (q : String × Nat × String × Nat), q ∈ strs → vk_R q.1 q.2.1 q.2.2.1 (gS g q.2.2.2) U) ∧ (∀ q ∈ ncs, va_Nc q.1 q.2 U) ∧ (∀ k, k ≠ 202 → gS g k ≤ gB g) ∧ KS g U
theorem SK.warm {g : gC} {s U : State} (hW : s.WarmedH U.vm) (h : SK g s) : SK g U := ⟨fun q hq => vk_R.warm hW (h.1 q hq), fun q hq => va_Nc.moved hW.alike (h.2.1 q hq), h.2.2.1, h.2.2.2.warm hW⟩
/-- what a state of the run says of the tables -/
def TK (g : gC) (U : State) : Prop := KW U ∧ va_K (gD g) wcl (wtys g) U ∧ SK g U ∧ AP g
theorem TK.warm {g : gC} {s U : State} (hW : s.WarmedH U.vm) (h : TK g s) : TK g U := ⟨h.1.warm hW, va_K.moved hW.alike h.2.1, h.2.2.1.warm hW, h.2.2.2⟩
theorem TK.calling {g : gC} {U : State} (f : JFrame) (mk : MethodId) (a : Array Value) (h : TK g U) : TK g (U.calling f mk a) := TK.warm (State.WarmedH.refl U) h
/-! an invocation: program, environment, room, state, method, arguments, what is below, method, code -/
abbrev Cx : Type := Program × Env × Room × State × MethodId × Array Value × List Frame × Method × Code
abbrev xP (x : Cx) : Program := x.1
abbrev xE (x : Cx) : Env := x.2.1
abbrev xR (x : Cx) : Room := x.2.2.1
abbrev xS (x : Cx) : State := x.2.2.2.1
abbrev xM (x : Cx) : MethodId := x.2.2.2.2.1
abbrev xA (x : Cx) : Array Value := x.2.2.2.2.2.1
abbrev xB (x : Cx) : List Frame := x.2.2.2.2.2.2.1
abbrev xMe (x : Cx) : Method := x.2.2.2.2.2.2.2.1
abbrev xC (x : Cx) : Code := x.2.2.2.2.2.2.2.2
/-- an end: thrown (1) or returned (0), the answer, the world -/
abbrev Tg : Type := Nat × Int × Wd
def outc (g : gC) (ret : Option FieldType) (t : Tg) : Outcome := if t.1 = 1 then .threw ((rR g t.2.1).getD 0) else .returned (ret.map fun ty => enc g ty t.2.1)
/-- the end of an invocation that began with n cells and z slots made -/
def MQx (g : gC) (ret : Option FieldType) (s : State) (below : List Frame) (n z : Nat) (tg : Tg) : State → Prop := fun t =>
  t.status = .running ∧ Ended t below (outc g ret tg) ∧ (∀ ty, ret = some ty → tg.1 = 0 → rg ty tg.2.1) ∧ HR g tg.2.2 t.heap ∧ n ≤ hn tg.2.2.1 ∧ z ≤ hz tg.2.2.1 ∧ ∃ L : List Loc, s.WarmedH t.vm ∧ s.sameButNew ({ t with vm := s.vm } : State) L (hn tg.2.2.1 - n) (hz tg.2.2.1 - z) ∧ ∀ q ∈ L, gB g < q.base
/-- everything that is fixed while a body runs: globals, invocation, answer's type, cells and slots at the start, locals, its end -/
abbrev Gm : Type := gC × Cx × Option FieldType × Nat × Nat × Nat × Tg
abbrev mg (Γ : Gm) : gC := Γ.1
abbrev mx (Γ : Gm) : Cx := Γ.2.1
abbrev mr (Γ : Gm) : Option FieldType := Γ.2.2.1
abbrev mn (Γ : Gm) : Nat := Γ.2.2.2.1
abbrev mz (Γ : Gm) : Nat := Γ.2.2.2.2.1
abbrev mL (Γ : Gm) : Nat := Γ.2.2.2.2.2.1
abbrev mt (Γ : Gm) : Tg := Γ.2.2.2.2.2.2
/-- the machine comes from here to the body's end -/
def E (Γ : Gm) (pc : Nat) (lv : List (Nat × Value)) (st : List Value) (w : Wd) : Prop :=
  ∀ (H : Heap) (locs : List Loc) (ls : Array Slot) (cells slots : Nat), HR (mg Γ) w H → (∀ q ∈ locs, gB (mg Γ) < q.base) → lv_has ls (mL Γ) lv → mn Γ + cells = hn w.1 → mz Γ + slots = hz w.1 →
    W (xP (mx Γ)) (gL (mg Γ)) (xE (mx Γ)) (xR (mx Γ)) (xS (mx Γ)) (xM (mx Γ)) (xA (mx Γ)) (xB (mx Γ)) (xMe (mx Γ)) (xC (mx Γ)) H locs cells slots (MQx (mg Γ) (mr Γ) (xS (mx Γ)) (xB (mx Γ)) (mn Γ) (mz Γ) (mt Γ)) (F0 (xM (mx Γ)) pc ls st)
/-- the room of an invocation: d frames, what is left of cells and slots -/
def rmd (d : Nat) (n z : Nat) : Room := { frames := d, cells := NM - n, slots := ZM - z, locals := 46 * d + 192 }
/-- a body stands: own class, code, locals, answer, depth -/
def Ok (Γ : Gm) (own : String) (cc : ByteArray) (nL : Nat) (ret : Option FieldType) (d : Nat) : Prop :=
  (xP (mx Γ)).tables.exec = Jvm.exec ∧ (xC (mx Γ)).code = cc ∧ (xC (mx Γ)).maxLocals = nL ∧ mL Γ = nL ∧ (xMe (mx Γ)).sig.returnType = ret ∧ mr Γ = ret ∧ (xMe (mx Γ)).locks = false ∧ (xS (mx Γ)).vm.findClass own = some (xM (mx Γ)).cls ∧ TK (mg Γ) (xS (mx Γ)) ∧ xR (mx Γ) = rmd d (mn Γ) (mz Γ)
section
variable {Γ : Gm} {own : String} {cc : ByteArray} {nL : Nat} {ret : Option FieldType} {d : Nat}
theorem Ok.hx (o : Ok Γ own cc nL ret d) : (xP (mx Γ)).tables.exec = Jvm.exec := o.1
theorem Ok.hb (o : Ok Γ own cc nL ret d) : (xC (mx Γ)).code = cc := o.2.1
theorem Ok.hm (o : Ok Γ own cc nL ret d) : (xC (mx Γ)).maxLocals = nL := o.2.2.1
theorem Ok.hL (o : Ok Γ own cc nL ret d) : mL Γ = nL := o.2.2.2.1
theorem Ok.hr (o : Ok Γ own cc nL ret d) : (xMe (mx Γ)).sig.returnType = ret := o.2.2.2.2.1
theorem Ok.hq (o : Ok Γ own cc nL ret d) : mr Γ = ret := o.2.2.2.2.2.1
theorem Ok.hk (o : Ok Γ own cc nL ret d) : (xMe (mx Γ)).locks = false := o.2.2.2.2.2.2.1
theorem Ok.ho (o : Ok Γ own cc nL ret d) : (xS (mx Γ)).vm.findClass own = some (xM (mx Γ)).cls := o.2.2.2.2.2.2.2.1
theorem Ok.ht (o : Ok Γ own cc nL ret d) : TK (mg Γ) (xS (mx Γ)) := o.2.2.2.2.2.2.2.2.1
theorem Ok.hR (o : Ok Γ own cc nL ret d) : xR (mx Γ) = rmd d (mn Γ) (mz Γ) := o.2.2.2.2.2.2.2.2.2
theorem Ok.w (o : Ok Γ own cc nL ret d) {w : Cond} (hw : w ∈ lw_tbl) (hk : kw w = true) : w.before (xA (mx Γ)) (xS (mx Γ)) = true := o.ht.1.use hw hk _
end
