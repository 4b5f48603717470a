/-! the world after the law's beginning -/
set_option maxRecDepth 100000
def h0 : CH := (0, 0, fun _ => 0, fun _ => 0, fun _ _ => 0)
theorem beg_1 : (f_beg (fun x m q => pr (x, m, q)) h0).map (fun r => (r.1, r.2.1)) = some ((1, 21, 99), 99) := by decide +kernel
theorem beg_2 : (f_beg (fun x m q => pr (x, m, q)) h0).map (fun r => (List.range 78).all fun j => decide (hk r.2 ((21 + j : Nat) : Int) = if j = 0 then 111 else (tq j).2.1) && (j == 0 || decide (hl r.2 ((21 + j : Nat) : Int) = (tq j).2.2))) = some true := by decide +kernel
theorem beg_3 : (f_beg (fun x m q => pr (x, m, q)) h0).map (fun r => (List.range 136).all fun k => tj k == 0 || decide (hv r.2 21 k = ((21 + tj k : Nat) : Int))) = some true := by decide +kernel
